/-! B: finding in the twin: fields -/
def oFt (o : Option (Nat × Nat)) : Int32 := match o with
  | none => -1
  | some r => Int32.ofNat (8 * r.1 + r.2)
/-- classes of a mask -/
def mkA (m : Int64) (v : List Nat) : Prop := ∀ d, d < 51 → (bs m d = true ↔ d ∈ v)
theorem mkA.put {m : Int64} {v : List Nat} {c : Nat} (h : mkA m v) (hc : c < 51) : mkA (m ||| ((1 : Int64) <<< ((Int32.ofNat c).toInt64 &&& 63))) (v ++ [c]) := fun d hd => by
  rw [bs_or, bs_one (by omega) d (by omega), Bool.or_eq_true, h d hd, decide_eq_true_iff, List.mem_append, List.mem_singleton]
theorem mkA.nil : mkA 0 [] := fun d _ => by rw [bs_zero]; simp
section
variable {G : List Sl} {US : UST} {A : List Nm} {S : List Sg} {W : List Cls} {w c k u p : Nat} {br : Int32} {nq nl nf nk : Nat} {M M' : Mem} {s : LkS} {Q : Int32 → Mem → Prop} {nm : Nm} {κ : Kd} {v : List Nat}
theorem TB.fl (h : TB G US A S W w br nq nl nf nk M) : tFl A W w M := h.1.1.1.2.1
theorem ct_fbN (hI : LInv W s.1) (hC : WC W) (hnm : nm ∈ A) (hκ : kdOk κ ∧ kok A κ) : ∀ n c v M Q, LKt G US A S W w br nq nl nf nk s M → mkA (mJ M 11 0 82) v → c < W.length → s.1 c = 1 → mu W c < n → (∀ M', Fr (9559733141621867441586768316465574430368378045510703084775668431942311828863146643430571129522591421434248497950340665469551789654205567254112670544649788242199960674916706211691514624202688305142486202459941882882659106125770304540193335916387137241144979440409515869485597144854383038547676463866413600448950559803566911262360946588775237240253606819428643255717289677303569524583166625887197707471191641997261471245102173919201730652444625251180487177718465971070103458581533927043083439309149462001546939522585675040359144958833854679116409278960049281445376710175786702119771271546364535078803135409052485803180209538865845290112423065703728575630748146247866789353181408444765010931912552732913187306633520429852344784365285888184350356818061606186976928288967763073406243091289222416109795881447563023186813454601863600072017029106494089168261375448338713306384183767063368097937640863077578223543540634999355339918388633290888806457317836878721522809483428506118824982453581512704) M M' → mkA (mJ M' 11 0 82) (fbN W nm κ n c v).2 → Q (oFt (fbN W nm κ n c v).1) M') → wr_Model_fieldByFaces n 0 (Int32.ofNat c) (nc A nm) (kt A κ) Q M := by
  intro n
  induction n with
  | zero => intro c v M Q _ _ _ _ h; exact absurd h (by omega)
  | succ n ih =>
    intro c v M Q h hm hc hl hn hQ
    have hb := h.1
    have h51 := hb.l51
    have hA := hb.2.2.1
    show wk_Model_fieldByFaces (wr_Model_fieldByFaces n) 0 _ _ _ Q M
    unfold wk_Model_fieldByFaces
    unfold fbN at hQ
    by_cases cv : c ∈ v
    · rw [if_pos cv] at hQ
      exact itp ((bs_test (by omega)).mpr ((hm c (by omega)).mpr cv)) (hQ M (Fr.rf _ _) hm)
    rw [if_neg cv] at hQ
    have f1 : Fr (9559733141621867441586768316465574430368378045510703084775668431942311828863146643430571129522591421434248497950340665469551789654205567254112670544649788242199960674916706211691514624202688305142486202459941882882659106125770304540193335916387137241144979440409515869485597144854383038547676463866413600448950559803566911262360946588775237240253606819428643255717289677303569524583166625887197707471191641997261471245102173919201730652444625251180487177718465971070103458581533927043083439309149462001546939522585675040359144958833854679116409278960049281445376710175786702119771271546364535078803135409052485803180209538865845290112423065703728575630748146247866789353181408444765010931912552732913187306633520429852344784365285888184350356818061606186976928288967763073406243091289222416109795881447563023186813454601863600072017029106494089168261375448338713306384183767063368097937640863077578223543540634999355339918388633290888806457317836878721522809483428506118824982453581512704) M (sJ M 11 0 82 (mJ M 11 0 82 ||| ((1 : Int64) <<< ((Int32.ofNat c).toInt64 &&& 63)))) := Fr.wJ rfl (Fr.rf _ _)
    have m1 : mkA (mJ (sJ M 11 0 82 (mJ M 11 0 82 ||| ((1 : Int64) <<< ((Int32.ofNat c).toInt64 &&& 63)))) 11 0 82) (v ++ [c]) := by
      rw [mJ_sJ, if_pos ⟨rfl, rfl, rfl⟩]; exact hm.put (by omega)
    refine itn (fun z => cv ((hm c (by omega)).mp ((bs_test (by omega)).mp z))) ⟨_, rfl, (gc W c).2.2.2.2.1.length + 1, ?_⟩
    generalize sJ M 11 0 82 (mJ M 11 0 82 ||| ((1 : Int64) <<< ((Int32.ofNat c).toInt64 &&& 63))) = M1 at f1 m1 ⊢
    have k1 := (h.fr f1).1
    have loop2 : ∀ m j v M2, Fr (9559733141621867441586768316465574430368378045510703084775668431942311828863146643430571129522591421434248497950340665469551789654205567254112670544649788242199960674916706211691514624202688305142486202459941882882659106125770304540193335916387137241144979440409515869485597144854383038547676463866413600448950559803566911262360946588775237240253606819428643255717289677303569524583166625887197707471191641997261471245102173919201730652444625251180487177718465971070103458581533927043083439309149462001546939522585675040359144958833854679116409278960049281445376710175786702119771271546364535078803135409052485803180209538865845290112423065703728575630748146247866789353181408444765010931912552732913187306633520429852344784365285888184350356818061606186976928288967763073406243091289222416109795881447563023186813454601863600072017029106494089168261375448338713306384183767063368097937640863077578223543540634999355339918388633290888806457317836878721522809483428506118824982453581512704) M M2 → mkA (mJ M2 11 0 82) v → (gc W c).2.2.1.length - j < m → j ≤ (gc W c).2.2.1.length → (∀ M', Fr (9559733141621867441586768316465574430368378045510703084775668431942311828863146643430571129522591421434248497950340665469551789654205567254112670544649788242199960674916706211691514624202688305142486202459941882882659106125770304540193335916387137241144979440409515869485597144854383038547676463866413600448950559803566911262360946588775237240253606819428643255717289677303569524583166625887197707471191641997261471245102173919201730652444625251180487177718465971070103458581533927043083439309149462001546939522585675040359144958833854679116409278960049281445376710175786702119771271546364535078803135409052485803180209538865845290112423065703728575630748146247866789353181408444765010931912552732913187306633520429852344784365285888184350356818061606186976928288967763073406243091289222416109795881447563023186813454601863600072017029106494089168261375448338713306384183767063368097937640863077578223543540634999355339918388633290888806457317836878721522809483428506118824982453581512704) M M' → mkA (mJ M' 11 0 82) (fbS (fbN W nm κ n) W ((gc W c).2.2.1.drop j) v).2 → Q (oFt (fbS (fbN W nm κ n) W ((gc W c).2.2.1.drop j) v).1) M') → wk_Model_fieldByFaces_L92 (wr_Model_fieldByFaces n) 0 Q m (Int32.ofNat c) (nc A nm) (kt A κ) (Int32.ofNat j) M2 := by
      intro m
      induction m with
      | zero => intro j v M2 _ _ hm; exact absurd hm (by omega)
      | succ m ihm =>
        intro j v M2 f2 m2 hmj hj hq
        have k2 := (h.fr f2).1
        have hcl := k2.1.cl
        obtain ⟨e34, h4, e33⟩ := (hcl.2.2 c hc).2.1
        unfold wk_Model_fieldByFaces_L92 wk_Model_fieldByFaces_j143
        refine ⟨w, k2.1.r45, ?_⟩
        rw [oN_tnc (k := c) (by omega), hcl.2.1.2.2.1, e34]
        refine ⟨(vp_oN (by omega)).mpr (by omega), ?_⟩
        by_cases cj : (gc W c).2.2.1.length ≤ j
        · rw [List.drop_of_length_le cj] at hq
          exact itp (le_oN (by omega) (by omega)) (hq M2 f2 m2)
        have hjl : j < (gc W c).2.2.1.length := by omega
        refine itn (nle_oN (by omega) (by omega)) ⟨w, k2.1.r45, ?_⟩
        rw [show (4 : Int32) * Int32.ofNat c = Int32.ofNat (4 * c) from oN_mul 4 c, oN_add, oN_tnc (k := 4 * c + j) (by omega), (e33 j hjl).1, hcl.2.1.2.1]
        refine ⟨(vp_oN (by omega)).mpr (by omega), ?_⟩
        obtain ⟨d, ed, hd, ld, md⟩ := hI.face hc hl hjl
        refine ct_classOf k2.1.r45 hcl.1 (e33 j hjl).2 ?_
        rw [fbS_drop hjl, ed] at hq
        rw [show fnd W (gf (gc W c) j) = some d from ed]
        refine itn (oN_nonneg (by omega)) (ih d v M2 _ k2 m2 hd ld (by omega) (fun M3 f3 m3 => ?_))
        have hlt := fbN_lt (W := W) (nm := nm) (κ := κ) n d v
        cases ef : fbN W nm κ n d v with
        | mk o v' =>
          rw [ef] at m3 hlt
          dsimp only at hq
          rw [ef] at hq
          cases o with
          | none =>
            refine itp (show (-1 : Int32) < 0 by decide) ?_
            rw [lit32 1, oN_add]
            exact ihm (j + 1) v' M3 (f2.trans f3) m3 (by omega) (by omega) hq
          | some r =>
            have h1 := hlt r hd rfl
            have h8 := (hb.fl.2 r.1 h1.1).1.2
            exact itn (oN_nonneg (show 8 * r.1 + r.2 < 2147483648 by omega)) (hq M3 (f2.trans f3) m3)
    have loop1 : ∀ m j, (gc W c).2.2.2.2.1.length - j < m → j ≤ (gc W c).2.2.2.2.1.length → ownF nm κ 0 (gc W c).2.2.2.2.1 = ownF nm κ j ((gc W c).2.2.2.2.1.drop j) → wk_Model_fieldByFaces_L33 (wr_Model_fieldByFaces n) 0 Q m (Int32.ofNat c) (nc A nm) (kt A κ) (Int32.ofNat (8 * c + j)) M1 := by
      intro m
      induction m with
      | zero => intro j hm; exact absurd hm (by omega)
      | succ m ihm =>
        intro j hmj hj ho
        have hfl := k1.1.fl
        obtain ⟨⟨e35, h8⟩, hg⟩ := hfl.2 c hc
        unfold wk_Model_fieldByFaces_L33 wk_Model_fieldByFaces_j83
        refine ⟨w, k1.1.r45, ?_⟩
        have l35 : mL M1 135 w = 51 := k1.1.1.1.1.1.2.2.2.1
        rw [oN_tnc (k := c) (by omega), e35, l35, show (8 : Int32) * Int32.ofNat c = Int32.ofNat (8 * c) from oN_mul 8 c, oN_add]
        refine ⟨(vp_oN (by omega)).mpr (by omega), ?_⟩
        by_cases cj : (gc W c).2.2.2.2.1.length ≤ j
        · rw [List.drop_of_length_le cj] at ho
          rw [show ownF nm κ 0 (gc W c).2.2.2.2.1 = Option.none from ho] at hQ
          refine itp (le_oN (by omega) (by omega)) ⟨(gc W c).2.2.1.length + 1, ?_⟩
          exact loop2 _ 0 (v ++ [c]) _ f1 m1 (by omega) (by omega) hQ
        have hjl : j < (gc W c).2.2.2.2.1.length := by omega
        obtain ⟨⟨i39, n39⟩, ⟨i40, n40⟩, -⟩ := hg j hjl
        refine itn (nle_oN (by omega) (by omega)) ⟨w, k1.1.r45, ?_⟩
        rw [oN_tnc (k := 8 * c + j) (by omega), i39, hfl.1.1, show Int32.ofNat (8 * c + j) + (1 : Int32) = Int32.ofNat (8 * c + (j + 1)) from oN_add (8 * c + j) 1]
        refine ⟨(vp_oN (by omega)).mpr (by omega), ?_⟩
        have hty := ((hC.at hc).1.1 _ (getD_mem (d := ([], (0, []), 0, 0, false)) hjl)).1
        rw [ownF_drop (d := ([], (0, []), 0, 0, false)) hjl] at ho
        have egf : (gc W c).2.2.2.2.1.getD j ([], (0, []), 0, 0, false) = gfl (gc W c) j := rfl
        rw [egf] at ho hty
        by_cases e1 : (gfl (gc W c) j).1 = nm
        · refine itp (by rw [e1]) ⟨w, k1.1.r45, ?_⟩
          rw [i40, hfl.1.2.1]
          refine ⟨(vp_oN (by omega)).mpr (by omega), ?_⟩
          by_cases e2 : (gfl (gc W c) j).2.1 = κ
          · rw [if_pos ⟨e1, e2⟩] at ho
            rw [ho] at hQ
            exact itp (by rw [e2]) (hQ _ f1 m1)
          · rw [if_neg (fun z => e2 z.2)] at ho
            exact itn (fun z => e2 ((kt_inj hty.kd hκ.1 n40 hκ.2 hA).mp z)) (ihm (j + 1) (by omega) (by omega) ho)
        · rw [if_neg (fun z => e1 z.1)] at ho
          exact itn (fun z => e1 ((nc_inj (by omega) n39 hnm).mp z)) (ihm (j + 1) (by omega) (by omega) ho)
    rw [show (8 : Int32) * Int32.ofNat c = Int32.ofNat (8 * c + 0) from oN_mul 8 c]
    exact loop1 _ 0 (by omega) (by omega) rfl
/-- what stopped the finding: its rule and its fault -/
def tThr (e : Int32) (M : Mem) : Prop := mI M 11 0 81 = Int32.ofNat (e.toNatClampNeg / 100) ∧ mI M 11 0 80 = Int32.ofNat (e.toNatClampNeg % 100)
theorem ct_fails {ru f : Nat} (hf : f < 100) (hr : ru < 100) (hQ : ∀ M', Fr (7169799856216400581190076237349180822776283534133027313581751323956733871647359982572928347141943566075686373462755499102163842240654175440584502908487341181649970506187529658768635968152016228856864651844956412161994329594327728405145001937290352930858734580307136902114197858640787278910757347899810200336712919852675183446770709941581427930190205114571482441787967257977677143437374969415398280603393731497946103433826630439401297989333468938385365383288849478302577593936150445282312579481862096501160204641939256280269358719125391009337306959220036961084032532631840026589828453659773401309102351556789364352385157154149383967584317299277796431723061109685900092014886056333573758198934414549684890479975140322389258588273964416138262767613546204640232696216725822305054682318466916812082346911085672267390110090951397700054012771829870566876196031586254034979788137825297526073453230647308183667657655476249516504938791474968166604842988377659041142107112571379589118736840186134528) M M' → tThr (Int32.ofNat (100 * ru + f)) M' → Q (-1) M') : w_Model_fails 0 (Int32.ofNat ru) (Int32.ofNat f) Q M := by
  unfold w_Model_fails
  refine hQ _ (Fr.wI rfl (Fr.wI rfl (Fr.rf _ _))) ⟨?_, ?_⟩
  · rw [mI_sI, if_neg (fun z => absurd z.2.2 (by decide)), mI_sI, if_pos ⟨rfl, rfl, rfl⟩, oN_tnc (by omega), show (100 * ru + f) / 100 = ru by omega]
  · rw [mI_sI, if_pos ⟨rfl, rfl, rfl⟩, oN_tnc (by omega), show (100 * ru + f) % 100 = f by omega]
abbrev SFl : Nat := (7169799856216400581190076237349180822776283534133027313581751323956733871647359982572928347141943566075686373462755499102163842240654175440584502908487341181649970506187529658768635968152016228856864651844956412161994329594327728405145001937290352930858734580307136902114197858640787278910757347899810200336712919852675183446770709941581427930190205114571482441787967257977677143437374969415398280603393731497946103433826630439401297989333468938385365383288849478302577593936150445282312579481862096501160204641939256280269358719125391009337306959220036961084032532631840026589828453659773401309102351556789364352385157154149383967584317299277796431723061109685900092014886056333573758198934414549684890479975140322389258588273964416138262767613546204640232696216725822305054682318466916812082346911085672267390110090951397700054012771829870566876196031586254034979788137825297526073453230647308183667657655476249516504938791474968166604842988377659041142107112571379589118736840186134528) ||| F_Model_isLinked
/-- a class that is named, linked -/
theorem ct_findLinked (hWF : WF W) (h : LKt G US A S W w br nq nl nf nk s M) (hI : LInv W s.1) (hB : LB s) (hk : nm ∈ A)
    (hQ : ∀ M', LKt G US A S W w br nq nl nf nk (lkd br W s nm).2 M' → LInv W (lkd br W s nm).2.1 → (∀ e, (lkd br W s nm).1 = .inl e → tThr e M') → Q (match (lkd br W s nm).1 with | .inl _ => -1 | .inr d => Int32.ofNat d) M') : w_Model_findLinked 0 (nc A nm) Q M := by
  have h51 := h.1.l51
  unfold w_Model_findLinked
  refine ct_classOf h.1.r45 h.1.cl.1 hk ?_
  unfold lkd at hQ
  cases e : fnd W nm with
  | none =>
    rw [e] at hQ
    refine itn (show ¬ (0 : Int32) ≤ -2 by decide) (ct_fails (ru := 50) (f := 11) (by omega) (by omega) (fun M' fr th => ?_))
    exact hQ M' (h.fr fr).1 hI (fun e he => by cases he; exact th)
  | some d =>
    rw [e] at hQ
    have hd := fnd_lt e
    dsimp only at hQ
    refine itp (oN_zero_le (by omega)) (ct_isLinked hWF h hI hd (fun M1 k1 i1 lo1 fr1 => ?_))
    by_cases c1 : (lkN br W 60 s d).1 = 1
    · rw [if_pos c1] at hQ
      rw [decide_eq_true c1]
      exact itn (by decide) (hQ M1 k1 i1 (fun e he => by cases he))
    · rw [if_neg c1] at hQ
      rw [decide_eq_false c1]
      have l138 : mL M1 138 w = 51 := k1.1.1.1.1.1.2.2.2.2.2.2
      have e138 : mI M1 138 w d = (lkN br W 60 s d).1 := (k1.2.1 d hd).trans (lkN_own (n := 59))
      obtain ⟨⟨n, hn, hn2, en⟩, -⟩ := lkN_lb (br := br) (W := W) 60 s d hB
      refine itp rfl ⟨w, k1.1.r45, by rw [l138]; exact (vp_oN (by omega)).mpr (by omega), by decide, w, k1.1.r45, by rw [l138]; exact (vp_oN (by omega)).mpr (by omega), by decide, ?_⟩
      rw [show (oC (some d)).toNatClampNeg = d from oN_tnc (by omega), e138, en, show Int32.ofNat n / (100 : Int32) = Int32.ofNat (n / 100) from oN_div (b := 100) (by omega) (by omega)]
      rw [show Int32.ofNat n - Int32.ofNat (n / 100) * (100 : Int32) = Int32.ofNat (n % 100) from by
        have := oN_mod (a := n) (b := 100) (by omega) (by omega)
        rw [oN_div (by omega) (by omega)] at this; exact this]
      refine ct_fails (by omega) (by omega) (fun M' fr th => ?_)
      rw [show 100 * (n / 100) + n % 100 = n by omega] at th
      exact hQ M' (k1.fr fr).1 i1 (fun e he => by cases he; rw [en]; exact th)
end
