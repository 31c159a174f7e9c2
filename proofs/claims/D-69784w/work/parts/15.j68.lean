/-! (printed by gen/kx.py) the works' checker at an instruction, for kinds -/
section
variable {A : List Nm} {W : List Cls} {w c k this : Nat} {br : Int32} {nq nk np nh nr a : Nat} {lo st : List Kd} {kn : Bool} {M M' : Mem} {Q : Int32 → Mem → Prop} {Ex : Mem → Prop}
theorem c_callRx {i : Ins} {r : Nat} (h : KAx A W w c k br nq nk np nh nr this Ex a lo st kn M) (hR : cRf A w r (iK i) (iM i) (iA i) (iR i) M) (hr : r < nr) (hres : kwf A (co (gmt (gc W c) k)) (iR i)) (hX : sr (gmt (gc W c) k) < (st ++ (if (iR i).1 = -4 then [] else [iR i])).length → ∀ M', KZx A W w c k br nq nk np nh nr this Ex a 30 M' → Q 0 M') (hQ : (st ++ (if (iR i).1 = -4 then [] else [iR i])).length ≤ sr (gmt (gc W c) k) → ∀ M', KAx A W w c k br nq nk np nh nr this Ex a lo (st ++ (if (iR i).1 = -4 then [] else [iR i])) kn M' → Q 1 M') : w_Checker_call_j378 this Q (Int32.ofNat r) M := by
  have hb := h.1.kb
  unfold KB at hb
  have hla := h.1.la
  have hh := h.ht
  unfold w_Checker_call_j378
  refine ⟨w, h.1.r, c_refType hR h.1.rm (by omega) ?_⟩
  by_cases c4 : (iR i).1 = -4
  · rw [if_pos c4, List.append_nil] at hQ
    exact itp ((kC_eq (n := -4) hres hla (by omega)).mpr c4) (hQ (by omega) M h)
  · rw [if_neg c4, List.length_append, List.length_singleton] at hQ hX
    refine itn (fun q => c4 ((kC_eq (n := -4) hres hla (by omega)).mp q)) ⟨w, h.1.r, c_refType hR h.1.rm (by omega) (c_pushx h hres (fun z M' q => ?_) (fun z M' q => ?_))⟩
    · exact itp rfl (hX (by omega) M' q)
    · exact itn (by decide) (hQ (by omega) M' q)
theorem c_callGx {i : Ins} {r : Nat} {κ : Int32} {mk : Bool} {ws : List Wt} (h : KAx A W w c k br nq nk np nh nr this Ex a lo st kn M) (hR : cRf A w r (iK i) (iM i) (iA i) (iR i) M) (hr : r < nr) (ho : isMo i.1) (hres : kwf A (co (gmt (gc W c) k)) (iR i)) (hws : wlist W c (gmt (gc W c) k) i = ws) (hle : ws.length ≤ st.length) (hmk : mk = decide (isMk i)) (hk : mk = true → (iA i).length < ws.length ∧ κ = kC A (tp st (iA i).length))
    (hnm0 : ¬ isMk i) (hP : KPx A W w c k br nq nk np nh nr this Ex a kn (if sr (gmt (gc W c) k) < (stS W c (gmt (gc W c) k) i a lo st).length then .inl 30 else if (i.1 = 5 ∨ i.1 = 6 ∨ isMk i) ∧ handS W (gmt (gc W c) k) (loS W c i lo st) a (hs (gmt (gc W c) k)) ≠ 0 then .inl (handS W (gmt (gc W c) k) (loS W c i lo st) a (hs (gmt (gc W c) k))) else .inr (loS W c i lo st, stS W c (gmt (gc W c) k) i a lo st)) Q) : w_Checker_call_j322 this Q (Int32.ofNat r) (b2 mk) (Int32.ofNat ws.length) κ M := by
  have hb := h.1.kb
  unfold KB at hb
  have hla := h.1.la
  have hh := h.ht
  have hp := h.pop hle
  have hR1 := hR.fr (S := (285793394306920833441610418092098634655629245793956098678773267955742373149291514664653927800704880150373913388423749690746007967577679155184353688551864105050094392601490879904551645289937784458453139617535910572704774231271588108092253680499408135958507227058036551719659148821493652464309016970613693109544906508636480672894494640559860467878289647366663850331954867463170600301178621010101029372654264171297982037231491311892858947537525986757827169736600317880446647247045504644272222656049350793825164158207773197137018282319809299349504)) (M' := sI M 4 this 2 (mI M 4 this 2 - Int32.ofNat ws.length)) (Fr.wI rfl (Fr.rf _ _))
  have hlen : (st.take (st.length - ws.length)).length = st.length - ws.length := by rw [List.length_take]; omega
  unfold w_Checker_call_j322
  cases mk with
  | false =>
    have hnm : ¬ isMk i := fun q => by rw [decide_eq_true q] at hmk; cases hmk
    have e1 : loS W c i lo st = lo := by unfold loS; rw [if_neg (by omega), if_neg (by omega), if_neg hnm]
    have e2 : stS W c (gmt (gc W c) k) i a lo st = st.take (st.length - ws.length) ++ (if (iR i).1 = -4 then [] else [iR i]) := by unfold stS restS; rw [if_neg (by omega), if_neg hnm, hws, pushS_call ho]
    rw [e1, e2, if_neg (c := (i.1 = 5 ∨ i.1 = 6 ∨ isMk i) ∧ _) (fun q => by
      rcases q.1 with q | q | q
      · omega
      · omega
      · exact hnm q)] at hP
    refine itp rfl (c_callRx hp hR1 hr hres (fun z M' q => ?_) (fun z M' q => ?_))
    · rw [if_pos z] at hP; exact hP M' q
    · rw [if_neg (by omega)] at hP; exact hP M' q
  | true => exact absurd (of_decide_eq_true hmk.symm) hnm0
theorem c_callKx {i : Ins} {r n : Nat} (h : KAx A W w c k br nq nk np nh nr this Ex a lo st kn M) (hR : cRf A w r (iK i) (iM i) (iA i) (iR i) M) (hr : r < nr) (ho : isMo i.1) (hwf : wfI n i) (hP : if takenS W c (gmt (gc W c) k) i lo st ≠ 0 then (∀ M', KZx A W w c k br nq nk np nh nr this Ex a (takenS W c (gmt (gc W c) k) i lo st) M' → Q 0 M') else if ownS W c (gmt (gc W c) k) i lo st ≠ 0 then (∀ M', KZx A W w c k br nq nk np nh nr this Ex a (ownS W c (gmt (gc W c) k) i lo st) M' → Q 0 M') else (∀ κ, (i.1 ≠ 52 → κ = kC A (tp st (iA i).length)) → (wlist W c (gmt (gc W c) k) i).length ≤ st.length → w_Checker_call_j322 this Q (Int32.ofNat r) (b2 (decide (isMk i))) (Int32.ofNat (wlist W c (gmt (gc W c) k) i).length) κ M)) : w_Checker_call this (Int32.ofNat i.1) (Int32.ofNat r) Q M := by
  have hb := h.1.kb
  unfold KB at hb
  have hL := L_le w
  have hh := h.ht
  have hA := h.1.na
  have hla := h.1.la
  obtain ⟨-, hop, -, hk6, -⟩ := hwf
  have hty : ∀ j, j < (iA i).length → kwf A (co (gmt (gc W c) k)) (gk (iA i) j) ∧ 0 ≤ (gk (iA i) j).1 ∧ mI M 211 (2 * w + 2) (6 * r + j) = kC A (gk (iA i) j) := fun j hj => by
    have t1 := hop.2.2.2.2.1 (gk (iA i) j) (gk_me hj)
    have t2 := hR.2.2.2.2 j hj (by omega)
    refine ⟨kwf_kd t1.kd t2.2, ?_, t2.1⟩
    rcases t1 with q | q | q
    · rw [q]; decide
    · rw [q]; decide
    · rw [q]; decide
  have hres : kwf A (co (gmt (gc W c) k)) (iR i) := kwf_kd hop.2.2.2.2.2.1 hR.2.2.1.2
  obtain ⟨ws, hws⟩ : ∃ ws, wlist W c (gmt (gc W c) k) i = ws := ⟨_, rfl⟩
  have ews : ws = (iA i).reverse.map (fun κ => (0, κ)) ++ callT W c i := by rw [← hws]; exact wlist_call ho
  have lws : ws.length = (iA i).length + (callT W c i).length := by rw [ews, List.length_append, List.length_map, List.length_reverse]
  have dws : ws.drop (iA i).length = callT W c i := by rw [ews, List.drop_left' (by rw [List.length_map, List.length_reverse])]
  have hT : takenS W c (gmt (gc W c) k) i lo st = takeS W st ws := by rw [takenS_w (by omega), hws]
  rw [hT] at hP
  have lT : (callT W c i).length = if i.1 = 52 then 0 else 1 := by
    unfold callT
    by_cases c1 : i.1 = 52
    · rw [if_pos c1, if_pos c1]; rfl
    · rw [if_neg c1, if_neg c1]
      by_cases c2 : i.1 = 51
      · rw [if_pos c2]; rfl
      · rw [if_neg c2]; rfl
  unfold w_Checker_call
  refine ⟨w, h.1.r, c_refArguments hR h.1.rm (by omega) ⟨w, h.1.r, c_refName hR h.1.rm (by omega) ?_⟩⟩
  have mkq : nc A (iM i) = 79 ↔ iM i = nMake := ⟨fun q => (nc_inj (by omega) hR.2.1.2 hA.make.2).mp (q.trans hA.make.1.symm), fun q => by rw [q]; exact hA.make.1⟩
  have key : ∀ mk : Bool, mk = decide (iM i = nMake) → w_Checker_call_j27 this Q (Int32.ofNat i.1) (Int32.ofNat r) (Int32.ofNat (iA i).length) (b2 mk) M := by
    intro mk hmk
    -- behind the wants
    have last : ∀ κ, (i.1 ≠ 52 → κ = kC A (tp st (iA i).length)) → takeS W st ws = 0 → ws.length ≤ st.length → w_Checker_call_j251 this Q (Int32.ofNat i.1) (Int32.ofNat r) (b2 mk) (Int32.ofNat ws.length) κ M := by
      intro κ eκ ht hle
      rw [if_neg (by omega)] at hP
      have own42 : ownS W c (gmt (gc W c) k) i lo st = 42 → ∀ M', KZx A W w c k br nq nk np nh nr this Ex a 42 M' → Q 0 M' := fun e => by
        rw [e, if_pos (by decide)] at hP; exact hP
      have own0 : ownS W c (gmt (gc W c) k) i lo st = 0 → mk = decide (isMk i) → w_Checker_call_j322 this Q (Int32.ofNat r) (b2 mk) (Int32.ofNat ws.length) κ M := fun e em => by
        rw [e, if_neg (by decide)] at hP
        rw [hws] at hP
        rw [em]
        exact hP κ eκ hle
      unfold w_Checker_call_j251 w_Checker_call_j269
      unfold ownS at own42 own0
      rw [if_neg (by omega), if_neg (by omega), if_neg (by omega)] at own42 own0
      by_cases c1 : i.1 = 51
      · have e51 : Int32.ofNat i.1 = 51 := by rw [c1]; rfl
        rw [if_neg (by omega), if_pos c1] at own42 own0
        by_cases c2 : iM i = nMake
        · rw [decide_eq_true c2] at hmk
          subst hmk
          rw [if_pos c2] at own42 own0
          have hbel := h.sv (d := (iA i).length) (by
            rw [if_neg (by omega)] at lT
            omega)
          refine itn (by decide) (itp e51 (itp e51 (itn (by decide) ⟨w, h.1.r, c_refClass hR h.1.rm (by omega) ?_⟩)))
          rw [eκ (by omega)]
          rw [eκ (by omega)] at own0
          refine c_makesRight h.1 hR.1.2 hbel.2 ?_
          cases e : mkRight W c (gmt (gc W c) k) (tp st (iA i).length) (iK i) with
          | true =>
            rw [e, if_pos rfl] at own0
            exact itn (by decide) (own0 rfl (by rw [decide_eq_true ⟨c1, c2⟩]))
          | false =>
            rw [e, if_neg (by decide)] at own42
            unfold w_Checker_call_j315
            exact itp rfl (h.brk (r := 42) (fun M' q => ⟨Or.inl rfl, own42 rfl M' q⟩))
        · rw [decide_eq_false c2] at hmk
          subst hmk
          rw [if_neg c2] at own42 own0
          refine itp rfl (itp e51 (itp rfl ⟨w, h.1.r, c_refClass hR h.1.rm (by omega) (c_isNear h.1 hR.1.2 ?_)⟩))
          cases e : near W c (iK i) with
          | true =>
            rw [e, if_pos rfl] at own0
            exact itn (by decide) (own0 rfl (by rw [decide_eq_false (fun q => c2 q.2)]))
          | false =>
            rw [e, if_neg (by decide)] at own42
            unfold w_Checker_call_j315
            exact itp rfl (h.brk (r := 42) (fun M' q => ⟨Or.inl rfl, own42 rfl M' q⟩))
      · have n51 : ¬ Int32.ofNat i.1 = 51 := ne_oN (b := 51) c1 (by omega) (by omega)
        rw [if_pos (by omega)] at own42 own0
        by_cases c2 : iM i = nMake
        · rw [decide_eq_true c2] at hmk
          subst hmk
          rw [if_pos c2] at own42
          exact itn (by decide) (itn n51 (h.brk (r := 42) (fun M' q => ⟨Or.inl rfl, own42 rfl M' q⟩)))
        · rw [decide_eq_false c2] at hmk
          subst hmk
          rw [if_neg c2] at own0
          exact itp rfl (itn n51 (own0 rfl (by rw [decide_eq_false (fun q => c2 q.2)])))
    -- what is wanted below the arguments
    have wT : ∀ t, callT W c i = [t] → wok A (co (gmt (gc W c) k)) t := fun t e => by
      unfold callT at e
      by_cases c1 : i.1 = 52
      · rw [if_pos c1] at e; cases e
      rw [if_neg c1] at e
      by_cases c2 : i.1 = 51
      · rw [if_pos c2] at e
        by_cases c3 : iM i = nMake
        · rw [if_pos c3] at e; cases e; exact Or.inr (Or.inr rfl)
        · rw [if_neg c3] at e; cases e; exact Or.inl ⟨rfl, kwf_cls (h.1.cl.1.2 c h.1.lc.1).2, by show (0 : Int) ≤ 2; decide⟩
      · rw [if_neg c2] at e; cases e; exact Or.inl ⟨rfl, kwf_cls hR.1.2, by show (0 : Int) ≤ 2; decide⟩
    have idx : ∀ j, j < (iA i).length → (((6 : Int32) * Int32.ofNat r + Int32.ofNat (iA i).length) - 1) - Int32.ofNat j = Int32.ofNat (6 * r + ((iA i).length - 1 - j)) := fun j hj => by
      rw [show (6 : Int32) * Int32.ofNat r = Int32.ofNat (6 * r) from oN_mul 6 r, oN_add, show Int32.ofNat (6 * r + (iA i).length) - 1 = Int32.ofNat (6 * r + (iA i).length - 1) from oN_sub (b := 1) (by omega), oN_sub (by omega)]
      congr 1; omega
    -- whether they are made
    have loopM : ∀ (κ : Int32) (v8 : Int32) (v5 : Bool), (v5 = decide (i.1 ≠ 52)) → (i.1 ≠ 52 → κ = kC A (tp st (iA i).length)) → (∀ t, callT W c i = [t] → v8 = wvN A t) → ws.length ≤ st.length → wFst W st 0 ws = 0 → ∀ m j, (iA i).length - j < m → j ≤ (iA i).length → wUn W st 0 ws = wUn W st j (ws.drop j) → w_Checker_call_L192 this Q m (Int32.ofNat i.1) (Int32.ofNat r) (Int32.ofNat (iA i).length) (b2 mk) (b2 v5) (Int32.ofNat ws.length) κ v8 (Int32.ofNat j) M := by
      intro κ v8 v5 hv5 eκ ev8 hle hF m
      have tk := takeS_un hle hF
      induction m with
      | zero => intro j hn; exact absurd hn (by omega)
      | succ m ih =>
        intro j hn hj he
        unfold w_Checker_call_L192
        by_cases cj : (iA i).length ≤ j
        · refine itp (le_oN cj (by omega)) ?_
          have ej : j = (iA i).length := by omega
          rw [ej, dws] at he
          by_cases c52 : i.1 = 52
          · rw [decide_eq_false (by simpa using c52)] at hv5
            subst hv5
            refine itp rfl (last κ eκ ?_ hle)
            have : callT W c i = [] := by unfold callT; rw [if_pos c52]
            rw [this] at he
            rw [tk, he]; rfl
          · rw [decide_eq_true c52] at hv5
            subst hv5
            refine itn (by decide) ?_
            obtain ⟨t, et⟩ : ∃ t, callT W c i = [t] := by
              rw [if_neg c52] at lT
              match hc : callT W c i, lT with
              | [t], _ => exact ⟨t, rfl⟩
            rw [if_neg c52] at lT
            rw [ev8 t et]
            rw [et, wUn_cons] at he
            refine c_isMadex h (by omega) (wT t et) (fun z => ?_) (fun z M' q => ?_)
            · rw [decide_eq_false z] at he
              exact itn (by decide) (last κ eκ (by rw [tk, he]; rfl) hle)
            · rw [decide_eq_true z] at he
              have e39 : takeS W st ws = 39 := by rw [tk, he]; rfl
              rw [if_pos (by omega), e39] at hP
              exact itp rfl (hP M' q)
        · obtain ⟨t1, t2, t3⟩ := hty ((iA i).length - 1 - j) (by omega)
          refine itn (nle_oN (by omega) (by omega)) ⟨w, h.1.r, ?_⟩
          rw [idx j (by omega), oN_tnc (by omega), t3, h.1.rm.2.2.2.2.2.1]
          refine ⟨(vp_oN (by omega)).mpr (by omega), ?_⟩
          have hd : ws.drop j = (0, gk (iA i) ((iA i).length - 1 - j)) :: ws.drop (j + 1) := by rw [ews, rev_drop (by omega)]
          rw [hd, wUn_cons] at he
          refine c_isMadex (t := (0, gk (iA i) ((iA i).length - 1 - j))) h (by omega) (Or.inl ⟨rfl, t1, t2⟩) (fun z => ?_) (fun z M' q => ?_)
          · rw [decide_eq_false z] at he
            rw [show Int32.ofNat j + (1 : Int32) = Int32.ofNat (j + 1) from oN_add j 1]
            exact itn (by decide) (ih (j + 1) (by omega) (by omega) (by rw [he]; rfl))
          · rw [decide_eq_true z] at he
            have e39 : takeS W st ws = 39 := by rw [tk, he]; rfl
            rw [if_pos (by omega), e39] at hP
            exact itp rfl (hP M' q)
    -- whether they fit
    have loopI : ∀ (κ : Int32) (v8 : Int32) (v5 : Bool), (v5 = decide (i.1 ≠ 52)) → (i.1 ≠ 52 → κ = kC A (tp st (iA i).length)) → (∀ t, callT W c i = [t] → v8 = wvN A t) → ws.length ≤ st.length → ∀ m j, (iA i).length - j < m → j ≤ (iA i).length → wFst W st 0 ws = wFst W st j (ws.drop j) → w_Checker_call_L130 this Q m (Int32.ofNat i.1) (Int32.ofNat r) (Int32.ofNat (iA i).length) (b2 mk) (b2 v5) (Int32.ofNat ws.length) κ v8 (Int32.ofNat j) M := by
      intro κ v8 v5 hv5 eκ ev8 hle m
      have fin : wFst W st 0 ws = 0 → w_Checker_call_j189 this Q (Int32.ofNat i.1) (Int32.ofNat r) (Int32.ofNat (iA i).length) (b2 mk) (b2 v5) (Int32.ofNat ws.length) κ v8 M := fun hF => by
        unfold w_Checker_call_j189
        exact ⟨(iA i).length + 1, loopM κ v8 v5 hv5 eκ ev8 hle hF _ 0 (by omega) (by omega) (by rw [List.drop_zero])⟩
      induction m with
      | zero => intro j hn; exact absurd hn (by omega)
      | succ m ih =>
        intro j hn hj he
        unfold w_Checker_call_L130
        by_cases cj : (iA i).length ≤ j
        · refine itp (le_oN cj (by omega)) ?_
          have ej : j = (iA i).length := by omega
          rw [ej, dws] at he
          by_cases c52 : i.1 = 52
          · have : callT W c i = [] := by unfold callT; rw [if_pos c52]
            rw [this] at he
            have hv : v5 = false := by rw [hv5]; exact decide_eq_false (by simpa using c52)
            refine itp (by rw [hv]; rfl) (fin he)
          · obtain ⟨t, et⟩ : ∃ t, callT W c i = [t] := by
              rw [if_neg c52] at lT
              match hc : callT W c i, lT with
              | [t], _ => exact ⟨t, rfl⟩
            rw [if_neg c52] at lT
            have hv : v5 = true := by rw [hv5]; exact decide_eq_true c52
            refine itn (by rw [hv]; decide) ?_
            rw [et, wFst_cons] at he
            have ew := ev8 t et
            have hI : w_Checker_is this (Int32.ofNat (iA i).length) (wvN A t) (fun r75 M74 => if r75 = 0 then (Q (0 : Int32) M74) else (w_Checker_call_j189 this Q (Int32.ofNat i.1) (Int32.ofNat r) (Int32.ofNat (iA i).length) (b2 mk) (b2 v5) (Int32.ofNat ws.length) κ v8 M74)) M := by
              refine c_isx h (by omega) (wT t et) (fun z => ?_) (fun z1 z2 M' q => ?_)
              · rw [if_pos z] at he
                exact itn (by decide) (fin he)
              · rw [if_neg (by omega)] at he
                have e3 : takeS W st ws = wOne W t (tp st (iA i).length) := by rw [takeS_fst hle (by rw [he]; exact z1), he]
                rw [e3, if_pos z1] at hP
                exact itp rfl (hP M' q)
            rw [← ew] at hI
            exact hI
        · obtain ⟨t1, t2, t3⟩ := hty ((iA i).length - 1 - j) (by omega)
          refine itn (nle_oN (by omega) (by omega)) ⟨w, h.1.r, ?_⟩
          rw [idx j (by omega), oN_tnc (by omega), t3, h.1.rm.2.2.2.2.2.1]
          refine ⟨(vp_oN (by omega)).mpr (by omega), ?_⟩
          have hd : ws.drop j = (0, gk (iA i) ((iA i).length - 1 - j)) :: ws.drop (j + 1) := by rw [ews, rev_drop (by omega)]
          rw [hd, wFst_cons] at he
          refine c_isx (t := (0, gk (iA i) ((iA i).length - 1 - j))) h (by omega) (Or.inl ⟨rfl, t1, t2⟩) (fun z => ?_) (fun z1 z2 M' q => ?_)
          · rw [if_pos z] at he
            rw [show Int32.ofNat j + (1 : Int32) = Int32.ofNat (j + 1) from oN_add j 1]
            exact itn (by decide) (ih (j + 1) (by omega) (by omega) he)
          · rw [if_neg (by omega)] at he
            have e3 : takeS W st ws = wOne W (0, gk (iA i) ((iA i).length - 1 - j)) (tp st j) := by rw [takeS_fst hle (by rw [he]; exact z1), he]
            rw [e3, if_pos z1] at hP
            exact itp rfl (hP M' q)
    have begin' : ∀ (κ : Int32) (v8 : Int32) (v5 : Bool), (v5 = decide (i.1 ≠ 52)) → (i.1 ≠ 52 → κ = kC A (tp st (iA i).length)) → (∀ t, callT W c i = [t] → v8 = wvN A t) → ws.length ≤ st.length → w_Checker_call_j125 this Q (Int32.ofNat i.1) (Int32.ofNat r) (Int32.ofNat (iA i).length) (b2 mk) (b2 v5) (Int32.ofNat ws.length) κ v8 M := fun κ v8 v5 hv5 eκ ev8 hle => by
      unfold w_Checker_call_j125
      exact ⟨(iA i).length + 1, loopI κ v8 v5 hv5 eκ ev8 hle _ 0 (by omega) (by omega) (by rw [List.drop_zero])⟩
    have j89 : ∀ (κ : Int32) (v5 : Bool), (v5 = decide (i.1 ≠ 52)) → (i.1 ≠ 52 → κ = kC A (tp st (iA i).length)) → ws.length ≤ st.length → w_Checker_call_j89 this Q (Int32.ofNat i.1) (Int32.ofNat r) (Int32.ofNat (iA i).length) (b2 mk) (b2 v5) (Int32.ofNat ws.length) κ M := fun κ v5 hv5 eκ hle => by
      unfold w_Checker_call_j89
      by_cases c1 : i.1 = 51
      · refine itp (by rw [c1]; rfl) ?_
        by_cases c2 : iM i = nMake
        · rw [decide_eq_true c2] at hmk
          refine itn (by rw [hmk]; decide) (begin' κ _ v5 hv5 eκ (fun t et => ?_) hle)
          unfold callT at et
          rw [if_neg (by omega), if_pos c1, if_pos c2] at et
          cases et; rfl
        · rw [decide_eq_false c2] at hmk
          refine itp (by rw [hmk]; rfl) (c_classKind h.1 (fun _ => begin' κ _ v5 hv5 eκ (fun t et => ?_) hle))
          unfold callT at et
          rw [if_neg (by omega), if_pos c1, if_neg c2] at et
          cases et; rfl
      · refine itn (ne_oN (b := 51) c1 (by omega) (by omega)) ⟨w, h.1.r, c_refClass hR h.1.rm (by omega) ?_⟩
        unfold w_Works_kindOf
        rw [show nc A (iK i) + 2 = kC A (2, iK i) from oN_add _ 2]
        refine begin' κ _ v5 hv5 eκ (fun t et => ?_) hle
        unfold callT at et
        by_cases c52 : i.1 = 52
        · rw [if_pos c52] at et; cases et
        · rw [if_neg c52, if_neg c1] at et
          cases et; rfl
    unfold w_Checker_call_j27 w_Checker_call_j40 w_Checker_call_j53
    by_cases c52 : i.1 = 52
    · rw [if_pos c52] at lT
      refine itp (by rw [c52]; rfl) (itp rfl ?_)
      have ea : Int32.ofNat (iA i).length + 0 = Int32.ofNat ws.length := by rw [lws, lT]; exact oN_add _ 0
      rw [ea]
      refine c_needsx h (by omega) (fun z M' q => ?_) (fun z => ?_)
      · rw [takeS_lt z, if_pos (by decide)] at hP
        exact itp rfl (hP M' q)
      · exact itn (by decide) (itp rfl (j89 0 false (by rw [decide_eq_false (by simpa using c52)]) (fun q => absurd c52 q) z))
    · rw [if_neg c52] at lT
      refine itn (ne_oN (b := 52) c52 (by omega) (by omega)) (itn (by decide) ?_)
      have ea : Int32.ofNat (iA i).length + 1 = Int32.ofNat ws.length := by rw [lws, lT]; exact oN_add _ 1
      rw [ea]
      refine c_needsx h (by omega) (fun z M' q => ?_) (fun z => ?_)
      · rw [takeS_lt z, if_pos (by decide)] at hP
        exact itp rfl (hP M' q)
      · refine itn (by decide) (itn (by decide) ?_)
        rw [hh.1, show Int32.ofNat st.length - (1 : Int32) = Int32.ofNat (st.length - 1) from oN_sub (b := 1) (by omega), oN_sub (by omega), oN_tnc (by omega), (h.sv (d := (iA i).length) (by omega)).1, h.2.1.1.2]
        exact ⟨(vp_oN (by omega)).mpr (by omega), j89 _ true (by rw [decide_eq_true c52]) (fun _ => rfl) z⟩
  by_cases c1 : iM i = nMake
  · exact itp (mkq.mpr c1) (key true (by rw [decide_eq_true c1]))
  · exact itn (fun q => c1 (mkq.mp q)) (key false (by rw [decide_eq_false c1]))
theorem c_callNx {i : Ins} {r n : Nat} (h : KAx A W w c k br nq nk np nh nr this Ex a lo st kn M) (hR : cRf A w r (iK i) (iM i) (iA i) (iR i) M) (hr : r < nr) (ho : isMo i.1) (hwf : wfI n i) (hnm : ¬ isMk i) (hP : KPx A W w c k br nq nk np nh nr this Ex a kn (actS W c (gmt (gc W c) k) i a lo st) Q) : w_Checker_call this (Int32.ofNat i.1) (Int32.ofNat r) Q M := by
  have hres : kwf A (co (gmt (gc W c) k)) (iR i) := kwf_kd hwf.2.1.2.2.2.2.2.1 hR.2.2.1.2
  refine c_callKx h hR hr ho hwf ?_
  unfold actS at hP
  by_cases c1 : takenS W c (gmt (gc W c) k) i lo st = 0
  · rw [if_neg (fun q => q c1)] at hP ⊢
    by_cases c2 : ownS W c (gmt (gc W c) k) i lo st = 0
    · rw [if_neg (fun q => q c2)] at hP ⊢
      exact fun κ e1 e2 => c_callGx h hR hr ho hres rfl e2 rfl (fun q => absurd (of_decide_eq_true q) hnm) hnm hP
    · rw [if_pos c2] at hP ⊢; exact hP
  · rw [if_pos c1] at hP ⊢; exact hP
end
