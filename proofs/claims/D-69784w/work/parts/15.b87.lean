/-! B: a method's line in the twin -/
theorem sum_erase {α : Type} [DecidableEq α] (f : α → Nat) : ∀ {T : List α} {a : α}, a ∈ T → (T.map f).sum = f a + ((T.erase a).map f).sum ∧ T.length = (T.erase a).length + 1
  | [], a, h => by cases h
  | b :: T, a, h => by
    by_cases e : b = a
    · subst e; simp
    · have hm : a ∈ T := by
        rcases List.mem_cons.mp h with q | q
        · exact absurd q.symm e
        · exact q
      obtain ⟨i1, i2⟩ := sum_erase f hm
      rw [List.erase_cons_tail (by simpa using e)]
      simp only [List.map_cons, List.sum_cons, List.length_cons]
      exact ⟨by omega, by omega⟩
theorem sum_sub {α : Type} [DecidableEq α] (f : α → Nat) : ∀ {S T : List α}, S.Nodup → (∀ x ∈ S, x ∈ T) → (S.map f).sum ≤ (T.map f).sum ∧ S.length ≤ T.length
  | [], T, _, _ => by simp
  | a :: S, T, hn, hs => by
    obtain ⟨n1, n2⟩ := List.nodup_cons.mp hn
    have ha := hs a List.mem_cons_self
    obtain ⟨i1, i2⟩ := sum_erase f ha
    obtain ⟨j1, j2⟩ := sum_sub f (S := S) (T := T.erase a) n2 (fun x hx => (List.mem_erase_of_ne (fun q => n1 (by rw [← q]; exact hx))).mpr (hs x (List.mem_cons_of_mem _ hx)))
    simp only [List.map_cons, List.sum_cons, List.length_cons]
    exact ⟨by omega, by omega⟩
theorem off_sum : ∀ (S : List Sg), off S S.length = (S.map (fun s => s.1.length)).sum := by
  intro S
  induction S with
  | nil => rfl
  | cons a S ih =>
    show off (a :: S) (S.length + 1) = _
    simp only [List.map_cons, List.sum_cons]
    rw [← ih]; rfl
/-- a bound on the store of signatures, and how it begins -/
abbrev UST : Type := List (List Kd × Kd) × List Sg
/-- signatures come out of a store that is bounded -/
def SU (US : UST) (A : List Nm) (S : List Sg) : Prop := (∀ s ∈ S, ∃ x ∈ US.1, s = sg A x.1 x.2 ∧ (∀ κ ∈ x.1, kok A κ) ∧ kok A x.2) ∧ US.1.length < 100000 ∧ (US.1.map (fun x => x.1.length)).sum ≤ 900000 ∧ US.2 <+: S
theorem SU.len {US : UST} {A : List Nm} {S : List Sg} (h : SU US A S) (hn : S.Nodup) : S.length < 100000 ∧ off S S.length ≤ 900000 := by
  have hs : ∀ s ∈ S, s ∈ US.1.map (fun x => sg A x.1 x.2) := fun s hs => by
    obtain ⟨x, hx, e, -⟩ := h.1 s hs
    exact List.mem_map.mpr ⟨x, hx, e.symm⟩
  obtain ⟨a, b⟩ := sum_sub (fun s : Sg => s.1.length) hn hs
  rw [List.length_map] at b
  have e : ((US.1.map (fun x => sg A x.1 x.2)).map (fun s : Sg => s.1.length)).sum = (US.1.map (fun x => x.1.length)).sum := by
    rw [List.map_map]; congr 1
    exact List.map_congr_left (fun x _ => by simp [sg])
  rw [e] at a
  rw [off_sum]
  have := h.2.1; have := h.2.2.1
  exact ⟨by omega, by omega⟩
theorem SU.add {US : UST} {A : List Nm} {S : List Sg} (h : SU US A S) {ks : List Kd} {κ : Kd} (hm : (ks, κ) ∈ US.1) (h1 : ∀ κ ∈ ks, kok A κ) (h2 : kok A κ) : SU US A (ins S (sg A ks κ)) := by
  refine ⟨fun s hs => ?_, h.2.1, h.2.2.1, h.2.2.2.trans (ins_pre _ _)⟩
  unfold ins at hs
  split at hs
  · exact h.1 s hs
  · rcases List.mem_append.mp hs with q | q
    · exact h.1 s q
    · rw [List.mem_singleton] at q; exact ⟨_, hm, q, h1, h2⟩
theorem SU.pre {US : UST} {A A' : List Nm} {S : List Sg} (h : SU US A S) (hp : A <+: A') : SU US A' S := by
  refine ⟨fun s hs => ?_, h.2⟩
  obtain ⟨x, hx, e, h1, h2⟩ := h.1 s hs
  refine ⟨x, hx, ?_, fun κ hκ => kok_pre hp (h1 κ hκ), kok_pre hp h2⟩
  rw [e]; unfold sg; rw [kt_map hp h1, kt_pre hp h2]
/-- words of a line tell signatures of the store alone -/
def UL (US : UST) (L : List Tok) : Prop := ∀ t ks κ t2, t <:+ L → pSig t = .inr ((ks, κ), t2) → (ks, κ) ∈ US.1
theorem TQ.suf {A : List Nm} {L ts : List Tok} {M : Mem} (h : TQ A L ts M) : ts <:+ L := by
  obtain ⟨-, k, -, e, -⟩ := h
  rw [e]; exact List.drop_suffix k L
/-- the twin's store of signatures -/
def TV (US : UST) (A : List Nm) (S : List Sg) (M : Mem) : Prop := TU A S M ∧ SU US A S ∧ (6 ≤ rl M sTr ∧ rl M sTr ≤ 20000) ∧ (mI M 11 0 38 = Int32.ofNat (S.idxOf ([], 0)) ∧ (([], 0) : Sg) ∈ S)
theorem pTypesF_suf {s : Bool} : ∀ d acc ts ks t', pTypesF s d acc ts = .inr (ks, t') → t' <:+ ts := by
  intro d
  induction d with
  | zero => intro acc ts ks t' h; unfold pTypesF at h; cases h
  | succ d ih =>
    intro acc ts ks t' h
    unfold pTypesF at h
    by_cases c : (hd ts).1 = 41
    · rw [if_pos c] at h; cases h
      exact List.tail_suffix ts
    · rw [if_neg c] at h
      have fin : ∀ t1, t1 <:+ ts → (if s = true ∧ acc.length = 6 then (.inl (er t1) : Rz (List Kd)) else match pType t1 with
        | .inl e => .inl e
        | .inr (κ, t2) => pTypesF s d (acc ++ [κ]) t2) = .inr (ks, t') → t' <:+ ts := by
        intro t1 h1 h2
        split at h2
        · cases h2
        · split at h2
          · cases h2
          · rename_i q
            have := ih _ _ _ _ h2
            rw [pType_tail q] at this
            exact (this.trans (List.tail_suffix t1)).trans h1
      by_cases c0 : acc.length = 0
      · rw [if_pos c0] at h
        exact fin ts (List.suffix_refl _) h
      · rw [if_neg c0] at h
        unfold pSign at h
        by_cases c4 : (hd ts).1 = 44
        · rw [if_pos c4] at h
          exact fin ts.tail (List.tail_suffix ts) h
        · rw [if_neg c4] at h; cases h
theorem pTypes_suf {s : Bool} {ts t' : List Tok} {ks : List Kd} (h : pTypes s ts = .inr (ks, t')) : t' <:+ ts := by
  unfold pTypes pSign at h
  by_cases c4 : (hd ts).1 = 40
  · rw [if_pos c4] at h
    exact (pTypesF_suf _ _ _ _ _ h).trans (List.tail_suffix ts)
  · rw [if_neg c4] at h; cases h
/-- behind a word that is not the end there is one more -/
theorem lz_tl {L t : List Tok} (hz : lz L) (ht : t <:+ L) (hne : t ≠ []) (h : (hd t).1 ≠ 0) : t.tail ≠ [] := by
  obtain ⟨i, z, eL, ez⟩ := hz
  obtain ⟨p, hp⟩ := ht
  intro e
  match t, hne, h, hp, e with
  | [], hne, _, _, _ => exact hne rfl
  | [x], _, h, hp, _ =>
    rw [eL] at hp
    have := (List.append_inj' hp rfl).2
    rw [List.cons.injEq] at this
    exact h (by show x.1 = 0; rw [this.1]; exact ez)
theorem pSig_kd {L ts t2 : List Tok} {ks : List Kd} {κ : Kd} (h : pSig ts = .inr ((ks, κ), t2)) (hz : lz L) (hs : ts <:+ L) : (∀ κ ∈ ks, kdOk κ) ∧ kdOk κ ∧ ks.length ≤ ts.length + 1 ∧ t2 ≠ [] := by
  unfold pSig at h
  split at h
  · cases h
  · rename_i ks' t1 e1
    split at h
    · cases h
    · rename_i κ' t2' e2
      have hh := Sum.inr.inj h
      have h1 := (Prod.mk.inj hh).1
      have h2 := (Prod.mk.inj hh).2
      have h3 := (Prod.mk.inj h1).1
      have h4 := (Prod.mk.inj h1).2
      subst h2 h3 h4
      obtain ⟨q1, q2⟩ := pRes_ne e2
      exact ⟨pTypes_kd e1, pRes_kd e2, pTypes_len e1, by rw [q2]; exact lz_tl hz ((pTypes_suf e1).trans hs) (fun z => by rw [z] at q1; exact absurd q1 (by decide)) (by omega)⟩
theorem ct_methodLine {G : List Sl} {US : UST} {A : List Nm} {S : List Sg} {W : List Cls} {w c : Nat} {br : Int32} {L ts : List Tok} {Q X : Mem → Prop} {M : Mem} (hG : Ga G) (hGs : Gs5 G) (hs : sTr ∈ G) (hTG : TG G M) (hz : lz L) (hUL : UL US L) (hLl : L.length ≤ 5000) (h : TQ A L ts M) (hne : ts ≠ []) (hC : Cx1 A W w br M) (hMh : tMh A S W w 0 M) (hV : TV US A S M) (h51 : mI M 11 0 51 = Int32.ofNat 99) (h53 : mI M 11 0 53 = Int32.ofNat c) (hc1 : c + 1 = W.length)
    (hX : ∀ e S' M', pMethod ts = .inl e → S <+: S' → ThT e M' → TV US A S' M' → Cx1 A W w br M' → tMh A S' W w 0 M' → GF G X6 M M' → LoT w c M M' → X M')
    (hQ0 : ∀ bits own ks κ t5 S' M', pMethod ts = .inr ((bits, own, ks, κ), t5) → rulM br (gc W c) bits own ks κ < 99 → S <+: S' → mI M' 11 0 51 = Int32.ofNat (rulM br (gc W c) bits own ks κ) → TV US A S' M' → Cx1 A W w br M' → tMh A S' W w 0 M' → GF G X6 M M' → LoT w c M M' → Q M')
    (hQ1 : ∀ bits own ks κ t5 S' M', pMethod ts = .inr ((bits, own, ks, κ), t5) → rulM br (gc W c) bits own ks κ = 99 → S <+: S' → tHD A S' W w c br (own, ks, κ, bits, 0, 0, [], []) M' → TV US A S' M' → mI M' 11 0 52 = (if bits &&& 8 = 0 then 2 else 1) → GF G X6 M M' → LoT w c M M' → (∀ f, 149 ≤ f → f ≤ 151 → ∀ k, k ≠ 12 * c + (gc W c).2.2.2.2.2.length → mI M' f w k = mI M f w k) → Q M') : w_Model_methodLine 0 Q X M := by
  have hc : c < W.length := by omega
  have hWl := hC.1.1.1.2.2.1
  refine ct_methodFlags hz h hne (fun bits t1 M1 n hpf hq1 hne1 hfr1 => ?_)
  have hpc : pMethod ts = match pMethodT t1 with
      | .inl e => .inl e
      | .inr ((own, ks, κ), t3) => .inr ((bits, own, ks, κ), t3) := by
    unfold pMethod; rw [hpf]
    all_goals (try dsimp only)
    all_goals (cases pMethodT t1 <;> rfl)
  have hbits := pFlags_bits4 _ _ _ _ _ hpf ⟨0, by omega, rfl⟩
  rw [hpc] at hX hQ0 hQ1
  obtain ⟨hU, hSU, hrow, h38⟩ := id hV
  have hC1 := hC.fr hfr1
  have hMh1 := hMh.fr hfr1
  have hU1 : TU A S M1 := hU.fr hfr1 hG hGs
  have hF1 : GF G X6 M M1 := (GF.rf hTG).fr hfr1 hG
  have hlo1 : LoT w c M M1 := (LoT.rf w c M).fr hfr1
  have hrow1 : (6 ≤ rl M1 sTr ∧ rl M1 sTr ≤ 20000) := by rw [(rd_fr hfr1 hG rfl hs).2]; exact hrow
  have h38' := (hfr1.I (f := 11) (k := 38) rfl 0).trans h38.1
  have h51' := (hfr1.I (f := 11) (k := 51) rfl 0).trans h51
  have h53' := (hfr1.I (f := 11) (k := 53) rfl 0).trans h53
  have hV1 : TV US A S M1 := ⟨hU1, hSU, hrow1, h38', h38.2⟩
  clear hpf
  unfold w_Model_methodLine_L4
  refine itp rfl ?_
  unfold pMethodT at hX hQ0 hQ1
  obtain ⟨k, k1, k2, ⟨k3, k4, k5⟩, k6, k7, k8⟩ := hq1.top hne1
  have kv : vp_in (mI M1 11 0 43) (mL M1 411 0) := by rw [k2, k3]; exact (vp_oN (by omega)).mpr k1
  have kk : mI M1 411 0 (mI M1 11 0 43).toNatClampNeg = Int32.ofNat (hd t1).1 := by rw [k2, oN_tnc (by omega)]; exact k6.1
  -- behind its name
  have j150 : ((hd t1).1 = 2 ∨ (hd t1).1 = 3) → w_Model_methodLine_j150 0 Q X bits M1 := by
    intro hk
    simp only [if_pos hk] at hX hQ0 hQ1
    unfold w_Model_methodLine_j150
    rw [k2, k4]
    refine ⟨(vp_oN (by omega)).mpr k1, ?_⟩
    have hv := k6.2.2.1 hk
    rw [oN_tnc (by omega), hv.1]
    have hq2 : TQ A L t1.tail (sI M1 11 0 43 (Int32.ofNat k + 1)) := by have := hq1.next hne1; rw [k2] at this; exact this
    have hne2 : t1.tail ≠ [] := tl_ne hq1 hz hne1 (by omega)
    have fr2 : Fr (17389053285336317351878766778946691247926315637433987075884339777880653544094723917497633246098469356064467316082920052339526209205733843653638669902010930385949833498519558291612183209877345334721187468785395836462447016175738653219365616526169355422362022073520194443491340543649827011081791104273022211507760511819591395146491680113786491784146359021958493496126338281653387684097045395696473328773557372182515739487102426063214317132305268844321266765688898833232275971716324287705144232512156053419943308695266159775854512115681890789558400281675948065540754596760574171857608728799031332671444279929441992504835451725495377632091591414252850109970946771223437807481207361788192449115581535321167734412726568607199341903406613506712074662242342321745994792379802244019458599889347574237235304974906399408040330771840424131500216443067063826980777549485244368600222849212629386052754199887344981513785643319350775236522874608073632419213605020338439358619295359869499998208) M1 (sI M1 11 0 43 (Int32.ofNat k + 1)) := Fr.wI rfl (Fr.rf _ _)
    have hF2 := hF1.fr fr2 hG
    have len := hSU.len hU1.2.2.2.1
    refine mf_w_Model_wholeSignature (Q := fun v M' => ∃ ks κ t2, pSig t1.tail = .inr ((ks, κ), t2) ∧ (∀ κ ∈ ks, kok A κ) ∧ kok A κ ∧ TQ A L t2 M' ∧ TU A (ins S (sg A ks κ)) M' ∧ GF G X6 (sI M1 11 0 43 (Int32.ofNat k + 1)) M' ∧ (6 ≤ rl M' sTr ∧ rl M' sTr ≤ 20000) ∧ v = Int32.ofNat (S.idxOf (sg A ks κ))) (X := fun M' => ∃ e, pSig t1.tail = .inl e ∧ ThT e M' ∧ TU A S M' ∧ GF G X6 (sI M1 11 0 43 (Int32.ofNat k + 1)) M' ∧ (6 ≤ rl M' sTr ∧ rl M' sTr ≤ 20000)) (fun v M3 hf3 hp3 => ?_) (fun M3 hf3 hp3 => ?_) (ct_wholeSignature hG hGs hs hz hF2.1 hq2 hne2 (by rw [(rd_fr fr2 hG rfl hs).2]; exact hrow1) (hU1.fr fr2 hG hGs) len.1 len.2 hLl (fun ks κ t2 M' a b c d e f g => ⟨ks, κ, t2, a, b, c, d, e, f, g, rfl⟩) (fun e M' a b c d f => ⟨e, a, b, c, d, f⟩))
    rotate_left
    · obtain ⟨e, a, b, d, f, g⟩ := hp3
      exact hX e S M3 (by unfold pSigE; simp only [a]) (List.prefix_refl _) b ⟨d, hSU, g, (hf3.I (f := 11) (k := 38) rfl 0).trans ((fr2.I (f := 11) (k := 38) rfl 0).trans h38'), h38.2⟩ ((hC1.fr fr2).fr hf3) ((hMh1.fr fr2).fr hf3) (hF2.trans f) ((hlo1.fr fr2).fr hf3)
    obtain ⟨ks, κ, t2, a, b, d, hq3, hU3, f, g, e3⟩ := hp3
    subst e3
    have hpre : S <+: ins S (sg A ks κ) := ins_pre _ _
    have hC3 := (hC1.fr fr2).fr hf3
    have hMh3 := (((hMh1.fr fr2).fr hf3).pre hpre)
    have hF3 := hF2.trans f
    have hlo3 := (hlo1.fr fr2).fr hf3
    have hSU3 : SU US A (ins S (sg A ks κ)) := hSU.add (hUL _ ks κ t2 ((List.tail_suffix t1).trans hq1.suf) a) b d
    have h383 : mI M3 11 0 38 = Int32.ofNat ((ins S (sg A ks κ)).idxOf ([], 0)) := by rw [idxS_pre hpre h38.2]; exact (hf3.I (f := 11) (k := 38) rfl 0).trans ((fr2.I (f := 11) (k := 38) rfl 0).trans h38')
    have hV3 : TV US A (ins S (sg A ks κ)) M3 := ⟨hU3, hSU3, g, h383, hpre.subset h38.2⟩
    have h513 := (hf3.I (f := 11) (k := 51) rfl 0).trans ((fr2.I (f := 11) (k := 51) rfl 0).trans h51')
    have h533 := (hf3.I (f := 11) (k := 53) rfl 0).trans ((fr2.I (f := 11) (k := 53) rfl 0).trans h53')
    obtain ⟨kd1, kd2, kd3, hne3⟩ := pSig_kd a hz hq2.suf
    simp only [pSigE, a] at hX hQ0 hQ1
    refine mf_w_Model_need (Q := fun M' => (hd t2).1 = 0 ∧ TQ A L t2.tail M') (X := fun M' => (hd t2).1 ≠ 0 ∧ ThT (er t2) M') (fun M5 hf5 hp5 => ?_) (fun M5 hf5 hp5 => ?_) (ct_need (b := 0) hq3 hne3 (by omega) (fun M' a b => ⟨a, b⟩) (fun M' a b => ⟨a, b⟩))
    rotate_left
    · exact hX (er t2) _ M5 (by simp only [if_neg hp5.1]) hpre hp5.2 ⟨hU3.fr hf5 hG hGs, hSU3, by rw [(rd_fr hf5 hG rfl hs).2]; exact g, (hf5.I (f := 11) (k := 38) rfl 0).trans h383, hpre.subset h38.2⟩ (hC3.fr hf5) (hMh3.fr hf5) (hF3.fr hf5 hG) (hlo3.fr hf5)
    obtain ⟨c0, hq5⟩ := hp5
    have hC5 := hC3.fr hf5
    have hMh5 := hMh3.fr hf5
    have hU5 : TU A (ins S (sg A ks κ)) M5 := hU3.fr hf5 hG hGs
    have g5 : (6 ≤ rl M5 sTr ∧ rl M5 sTr ≤ 20000) := by rw [(rd_fr hf5 hG rfl hs).2]; exact g
    have h385 := (hf5.I (f := 11) (k := 38) rfl 0).trans h383
    have h515 := (hf5.I (f := 11) (k := 51) rfl 0).trans h513
    have h535 := (hf5.I (f := 11) (k := 53) rfl 0).trans h533
    have hF5 := hF3.fr hf5 hG
    have hlo5 := hlo3.fr hf5
    have hB5 : B3 G [] A (ins S (sg A ks κ)) W w c br L t2.tail 99 M5 M5 := ⟨⟨hq5, hC5, h515, GF.rf hF5.1, hMh5, h535, hc⟩, LoT.rf w c M5, hU5, ⟨h385, hpre.subset h38.2⟩, fun _ _ _ _ _ => rfl⟩
    simp only [if_pos c0] at hX hQ0 hQ1
    have e136 := (hMh5.2 c hc).1.1
    rw [if_pos hc1] at e136
    have hn12 := (hMh5.2 c hc).1.2
    refine ⟨w, hC5.2.1, ?_⟩
    rw [h535, oN_tnc (by omega), hC5.2.2.2.2.1, lit32 12, oN_mul]
    refine ⟨(vp_oN (by omega)).mpr (by omega), (gc W c).2.2.2.2.2.length + 1, ?_⟩
    have e136' : mI M5 136 w c = Int32.ofNat (gc W c).2.2.2.2.2.length := e136
    rw [e136', ← ins_idx S (sg A ks κ)]
    have hkl : ks.length < 10000 := by
      have := hq2.suf.length_le
      omega
    refine ct_methodRules hG hGs hc1 hv.2 (fun κ hκ => ⟨b κ hκ, kd1 κ hκ⟩) ⟨d, kd2⟩ (ins_mem _ _) hbits hkl hB5 (fun M' r9 hb => ?_) (fun M' r9 x1 x2 x3 x4 x5 x6 x7 => ?_)
    · obtain ⟨⟨y1, y2, y3, y4, y5, y6, y7⟩, y8, y9, y10, -⟩ := hb
      exact hQ0 bits _ ks κ t2 _ M' rfl r9 hpre y3 ⟨y9, hSU3, by rw [(y4.2.1 sTr hs (by simp)).2.1]; exact g5, y10⟩ y2 y5 (hF5.trans (y4.sub (fun s h => by cases h))) (hlo5.trans y8)
    · refine hQ1 bits _ ks κ t2 _ M' rfl r9 hpre x1 ⟨x2, hSU3, by rw [(x4.2.1 sTr hs (by simp)).2.1]; exact g5, x6.trans h385, hpre.subset h38.2⟩ x3 (hF5.trans (x4.sub (fun s h => by cases h))) (hlo5.trans x5) (fun f a b k hk => ?_)
      rw [x7 f a b k hk]
      have h3 : f = 149 ∨ f = 150 ∨ f = 151 := by omega
      rcases h3 with q | q | q <;> subst q
      · rw [hf5.Ia (f := 149) rfl rfl, hf3.Ia (f := 149) rfl rfl, fr2.Ia (f := 149) rfl rfl, hfr1.Ia (f := 149) rfl rfl]
      · rw [hf5.Ia (f := 150) rfl rfl, hf3.Ia (f := 150) rfl rfl, fr2.Ia (f := 150) rfl rfl, hfr1.Ia (f := 150) rfl rfl]
      · rw [hf5.Ia (f := 151) rfl rfl, hf3.Ia (f := 151) rfl rfl, fr2.Ia (f := 151) rfl rfl, hfr1.Ia (f := 151) rfl rfl]
  refine ⟨kv, ?_⟩
  rw [kk]
  by_cases c2 : (hd t1).1 = 2
  · exact itp (by rw [c2]; rfl) (j150 (Or.inl c2))
  refine itn (ne_oN (b := 2) c2 (by omega) (by omega)) ⟨kv, ?_⟩
  by_cases c3 : (hd t1).1 = 3
  · exact itp (by rw [c3]; rfl) (j150 (Or.inr c3))
  refine itn (ne_oN (b := 3) c3 (by omega) (by omega)) ?_
  simp only [if_neg (show ¬ ((hd t1).1 = 2 ∨ (hd t1).1 = 3) from fun q => q.elim c2 c3)] at hX
  refine mf_w_Model_wrong (Q := fun _ => False) (X := fun M' => ThT (er t1) M') (fun M5 hf5 hp5 => hp5.elim) (fun M5 hf5 hp5 => ?_) (ct_wrong hq1 hne1 (fun M' a => a))
  exact hX (er t1) S M5 rfl (List.prefix_refl _) hp5 ⟨hU1.fr hf5 hG hGs, hSU, by rw [(rd_fr hf5 hG rfl hs).2]; exact hrow1, (hf5.I (f := 11) (k := 38) rfl 0).trans h38', h38.2⟩ (hC1.fr hf5) (hMh1.fr hf5) (hF1.fr hf5 hG) (hlo1.fr hf5)
