/-! B: operands in the twin -/
abbrev niU (L : List Tok) (nm : Nm) : Nine := (1, nm, 0, (hd L).2.2.2, false)
/-- labels of a pick, from the first one on -/
theorem JM.picks {G : List Sl} {US : UST} {A : List Nm} {S : List Sg} {W : List Cls} {w c : Nat} {br : Int32} {q0 nl0 nq nl nf nk : Nat} {p : PM} {NL : List Nine} {z : Nat × Nat × Nat × Nat × Nat × Nat} {L : List Tok} {M0 : Mem} {v : Int32} {n : Nat} {t0 : List Tok} {Q X : Mem → Prop} (hx : Gx G w) (hz : lz L) (hNL : NL.length + L.length ≤ 3900) (hnl : nl + L.length ≤ 3900) (hz1 : z.2.2.1 ≤ nl)
    (E : ∀ e M', pPicks (t0.length + 1) [] t0 = .inl e → ThT e M' → JE G US A w z M0 M' → X M')
    (F : ∀ acc t1 M', pPicks (t0.length + 1) [] t0 = .inr (acc, t1) → t1 ≠ [] → (∀ nm ∈ acc, nm ∈ A) → (∀ j, j < acc.length → rd M' (sLi w) (nl + j) = gi (acc.map (nc A)) j) → JM G US A S W w c br q0 nl0 nq (nl + acc.length) nf nk p (NL ++ acc.map (niU L)) z L t1 M0 M' → w_Model_codeLine_j789 0 Q X (Int32.ofNat n) (Int32.ofNat 40) v (Int32.ofNat nl) (Int32.ofNat acc.length) M') :
    ∀ d acc ts M1, ts.length < d → ts ≠ [] → acc ≠ [] → acc.length + ts.length ≤ L.length → (∀ nm ∈ acc, nm ∈ A) → (∀ j, j < acc.length → rd M1 (sLi w) (nl + j) = gi (acc.map (nc A)) j) → JM G US A S W w c br q0 nl0 nq (nl + acc.length) nf nk p (NL ++ acc.map (niU L)) z L ts M0 M1 → pPicks (t0.length + 1) [] t0 = pPicks d acc ts → w_Model_codeLine_L608 0 Q X d (Int32.ofNat n) (Int32.ofNat 40) v (Int32.ofNat nl) M1 := by
  intro d
  induction d with
  | zero => intro acc ts M1 h; omega
  | succ d ih =>
    intro acc ts M1 hd' hne ha hlen hA hrd hJ hp
    have hl0 : 0 < ts.length := List.length_pos_iff.mpr hne
    obtain ⟨k, k1, k2, ⟨k3, k4, k5, k6⟩, k7, k8⟩ := hJ.1.at hl0
    rw [gt0 hne] at k7 k8
    rw [Nat.add_zero] at k7
    have tk : (Int32.ofNat k).toNatClampNeg = k := oN_tnc (by omega)
    have hacc : acc.length ≠ 0 := fun q => ha (List.length_eq_zero_iff.mp q)
    unfold w_Model_codeLine_L608
    have ew : mR M1 11 0 45 = some (12, w) := hJ.2.1.1.1.2.1
    have e37 : mI M1 12 w 37 = Int32.ofNat (nl + acc.length) := hJ.2.1.2.1.2.1
    have e43 : mI M1 11 0 43 = Int32.ofNat k := k1
    rw [show pPicks (d + 1) acc ts = if acc.length ≠ 0 ∧ (hd ts).1 = 0 then .inr (acc, ts) else match (if acc.length = 0 then (.inr ((), ts) : Rz Unit) else pSign 44 ts) with
      | .inl e => .inl e
      | .inr (_, t1) => match pName t1 with
        | .inl e => .inl e
        | .inr (nm, t2) => pPicks d (acc ++ [nm]) t2 from rfl, if_neg hacc] at hp
    have vk : vp_in (mI M1 11 0 43) (mL M1 411 0) := by rw [e43, k4]; exact (vp_oN (by omega)).mpr (by omega)
    refine ⟨vk, ?_⟩
    have ek : mI M1 411 0 (mI M1 11 0 43).toNatClampNeg = Int32.ofNat (hd ts).1 := by rw [e43, tk]; exact k7.1
    rw [ek]
    by_cases c44 : (hd ts).1 = 44
    · refine itp (by rw [c44]; rfl) ?_
      rw [if_neg (fun q => by omega), pSign, if_pos c44] at hp
      have hne2 : ts.tail ≠ [] := tl_ne hJ.1 hz hne (by omega)
      have fr2 : Fr (17389053285336317351878766778946691247926315637433987075884339777880653544094723917497633246098469356064467316082920052339526209205733843653638669902010930385949833498519558291612183209877345334721187468785395836462447016175738653219365616526169355422362022073520194443491340543649827011081791104273022211507760511819591395146491680113786491784146359021958493496126338281653387684097045395696473328773557372182515739487102426063214317132305268844321266765688898833232275971716324287705144232512156053419943308695266159775854512115681890789558400281675948065540754596760574171857608728799031332671444279929441992504835451725495377632091591414252850109970946771223437807481207361788192449115581535321167734412726568607199341903406613506712074662242342321745994792379802244019458599889347574237235304974906399408040330771840424131500216443067063826980777549485244368600222849212629386052754199887344981513785643319350775236522874608073632419213605020338439358619295359869499998208) M1 (sI M1 11 0 43 (mI M1 11 0 43 + 1)) := Fr.wI rfl (Fr.rf _ _)
      have hJ2 := hJ.fr hx fr2 (hJ.1.next hne)
      have htl : ts.tail.length + 1 = ts.length := by rw [List.length_tail]; omega
      refine hJ2.usedLabel hx hz hne2 (by rw [List.length_append, List.length_map]; omega) (fun nm t2 M' a b c h' r' => ?_) (fun e M' a b h' => ?_)
      · simp only [a] at hp
        have et2 := (pName_tail a).1
        have hl2 : t2.length + 2 = ts.length := by
          have : 0 < ts.tail.length := List.length_pos_iff.mpr hne2
          rw [et2, List.length_tail, List.length_tail]; rw [List.length_tail] at this; omega
        refine h'.addList hx (by omega) (by omega) (fun M2 h2 r1 r2 => ?_)
        have hL : (acc ++ [nm]).length = acc.length + 1 := by simp
        refine ih (acc ++ [nm]) t2 M2 (by omega) c (by simp) (by rw [hL]; omega) (fun x hx' => ?_) (fun j hj => ?_) ?_ hp
        · rcases List.mem_append.mp hx' with q | q
          · exact hA x q
          · rw [List.mem_singleton] at q; rw [q]; exact b
        · rw [hL] at hj
          rw [List.map_append]
          by_cases cj : j < acc.length
          · rw [r1 _ (by omega)]
            have : gi (acc.map (nc A) ++ [nm].map (nc A)) j = gi (acc.map (nc A)) j := by
              show List.getD _ j 0 = List.getD _ j 0
              rw [List.getD_eq_getElem?_getD, List.getElem?_append_left (by rw [List.length_map]; exact cj), List.getD_eq_getElem?_getD]
            rw [this, ← hrd j cj]
            exact r' _
          · have ej : j = acc.length := by omega
            subst ej
            rw [r2]
            simp [gi, List.getD_eq_getElem?_getD]
        · rw [hL, ← Nat.add_assoc, List.map_append, ← List.append_assoc]; exact h2
      · simp only [a] at hp
        exact E e M' hp b h'
    · refine itn (ne_oN (b := 44) c44 (by omega) (by omega)) ⟨w, ew, ?_⟩
      rw [e37, oN_sub (by omega), Nat.add_sub_cancel_left]
      by_cases c0 : (hd ts).1 = 0
      · rw [if_pos ⟨hacc, c0⟩] at hp
        exact F acc ts M1 hp hne hA hrd hJ
      · rw [if_neg (fun q => c0 q.2), pSign, if_neg c44] at hp
        unfold w_Model_codeLine_j789
        exact hJ.need (b := 0) hx hz hne (by omega) (fun M' a => absurd a c0) (fun M' a b h' => E _ M' hp b h')
