/-! B: finding in the twin: fields, whole -/
abbrev SFl2 : Nat := (7169799856216400581190076237349180822776283534133027313581751323956733871647359982572928347141943566075686373462755499102163842240654175440584502908487341181649970506187529658768635968152016228856864651844956412161994329594327728405145001937290352930858734580307136902114197858640787278910757347899810200336712919852675183446770709941581427930190205114571482441787967257977677143437374969415398280603393731497946103433826630439401297989333468938385365383288849478302577593936150445282312579481862096501160204641939256280269358719125391009337306959220036961084032532631840026589828453659773401309102351556789364352385157154149383967584317299277796431723061109685900092014886056333573758198934414549684890479975140322389258588273964416138262767613546204640232696216725822305054682318466916812082346911085672267390110090951397700054012771829870566876196031586254034979788137825297526073453230647308183667657655476249516504938791474968166604842988377659041142107112571379589118736840186134528)
section
variable {G : List Sl} {US : UST} {A : List Nm} {S : List Sg} {W : List Cls} {w c k u p q n : Nat} {br : Int32} {nq nl nf nk : Nat} {M M' : Mem} {s : LkS} {Q : Int32 → Mem → Prop} {nm : Nm} {κ : Kd} {v : List Nat} {i : Ins}
theorem TB.slt {s : Sl} (h : TB G US A S W w br nq nl nf nk M) (hs : s ∈ XW w) : mR M s.1 s.2.1 s.2.2.1 = some (s.2.2.2, rdI M s) := (h.1.2.2.2 s (h.2.1.2.2.2.1 s hs)).1.1
theorem TB.rdA (h : TB G US A S W w br nq nl nf nk M) (hI : TI1 A S w nl nf nk nq q n i M) (ho : isFo i.1 ∨ isMo i.1) : (mR M 12 w 31 = some (300, rdI M (sAs w)) ∧ q < mL M 300 (rdI M (sAs w)) ∧ mI M 300 (rdI M (sAs w)) q = nc A (iK i) ∧ iK i ∈ A) ∧ (mR M 12 w 32 = some (300, rdI M (sBs w)) ∧ q < mL M 300 (rdI M (sBs w)) ∧ mI M 300 (rdI M (sBs w)) q = nc A (iM i) ∧ iM i ∈ A) ∧ (mR M 12 w 33 = some (300, rdI M (sCs w)) ∧ q < mL M 300 (rdI M (sCs w)) ∧ mI M 300 (rdI M (sCs w)) q = if isFo i.1 then kt A (iR i) else Int32.ofNat (S.idxOf (sg A (iA i) (iR i)))) := by
  obtain ⟨⟨-, ⟨t1, t2, -, t4, t5, -⟩, -⟩, b, -⟩ := hI
  have hR := h.1.1.2.2.1.1
  have r1 : nq ≤ mL M 300 (rdI M (sAs w)) := hR (sAs w) (by simp)
  have r2 : nq ≤ mL M 300 (rdI M (sBs w)) := hR (sBs w) (by simp)
  have r3 : nq ≤ mL M 300 (rdI M (sCs w)) := hR (sCs w) (by simp)
  have hn : ¬ isJ i.1 := by omega
  have h40 : i.1 ≠ 40 := by omega
  rw [if_neg hn, if_pos (Or.inr ho)] at t1
  obtain ⟨u1, u2⟩ := t2 h40
  rw [if_pos ho] at u1
  refine ⟨⟨h.slt (s := sAs w) (by simp), by omega, t1, t4 (Or.inr ho)⟩, ⟨h.slt (s := sBs w) (by simp), by omega, u1, t5 ho⟩, h.slt (s := sCs w) (by simp), by omega, ?_⟩
  by_cases c1 : isFo i.1
  · rw [if_pos c1] at u2 ⊢; exact u2
  · rw [if_neg c1, if_pos (ho.resolve_left c1)] at u2
    rw [if_neg c1]; exact u2
/-- the way up from a class, in turn -/
theorem ct_fieldL (h0 : LKt G US A S W w br nq nl nf nk s M) (hI : LInv W s.1) (hC : WC W) (hi : TI1 A S w nl nf nk nq q n i M) (ho : isFo i.1) (hc : c < W.length) (hl : s.1 c = 1) {op m3 : Int32} (hQ : ∀ M', Fr (9559733141621867441586768316465574430368378045510703084775668431942311828863146643430571129522591421434248497950340665469551789654205567254112670544649788242199960674916706211691514624202688305142486202459941882882659106125770304540193335916387137241144979440409515869485597144854383038547676463866413600448950559803566911262360946588775237240253606819428643255717289677303569524583166625887197707471191641997261471245102173919201730652444625251180487177718465971070103458581533927043083439309149462001546939522585675040359144958833854679116409278960049281445376710175786702119771271546364535078803135409052485803180209538865845290112423065703728575630748146247866789353181408444765010931912552732913187306633520429852344784365285888184350356818061606186976928288967763073406243091289222416109795881447563023186813454601863600072017029106494089168261375448338713306384183767063368097937640863077578223543540634999355339918388633290888806457317836878721522809483428506118824982453581512704) M M' → w_Model_findField_j81 0 Q op m3 (oFt (fldW W (iM i) (iR i) c)) M') : ∃ m, w_Model_findField_L34 0 Q m op (Int32.ofNat q) m3 (-1) (Int32.ofNat c) (sJ M 11 0 82 0) := by
  have h51 := h0.1.l51
  have hbd := hi.2.1
  have h63 := hi.1.2.1.2.2.2.2.2.1 ho
  have loop : ∀ m r (u : Option Nat) v M1, Fr (9559733141621867441586768316465574430368378045510703084775668431942311828863146643430571129522591421434248497950340665469551789654205567254112670544649788242199960674916706211691514624202688305142486202459941882882659106125770304540193335916387137241144979440409515869485597144854383038547676463866413600448950559803566911262360946588775237240253606819428643255717289677303569524583166625887197707471191641997261471245102173919201730652444625251180487177718465971070103458581533927043083439309149462001546939522585675040359144958833854679116409278960049281445376710175786702119771271546364535078803135409052485803180209538865845290112423065703728575630748146247866789353181408444765010931912552732913187306633520429852344784365285888184350356818061606186976928288967763073406243091289222416109795881447563023186813454601863600072017029106494089168261375448338713306384183767063368097937640863077578223543540634999355339918388633290888806457317836878721522809483428506118824982453581512704) M M1 → mkA (mJ M1 11 0 82) v → (∀ d, u = some d → d < W.length ∧ s.1 d = 1 ∧ mu W d < r) → ((u = none ∨ r < m) ∧ 0 < m) → (fdU W (iM i) (iR i) 52 (some c) [] = fdU W (iM i) (iR i) r u v) → w_Model_findField_L34 0 Q m op (Int32.ofNat q) m3 (-1) (oC u) M1 := by
    intro m
    induction m with
    | zero => intro r u v M1 _ _ _ hm; exact absurd hm.2 (by omega)
    | succ m ihm =>
      intro r u v M1 fr hm hu hr he
      unfold w_Model_findField_L34
      cases u with
      | none =>
        have : fldW W (iM i) (iR i) c = none := by
          refine (show fldW W (iM i) (iR i) c = _ from he).trans ?_
          cases r <;> rfl
        rw [this] at hQ
        exact itp (by decide) (hQ M1 fr)
      | some d =>
        obtain ⟨hd, ld, md⟩ := hu d rfl
        obtain ⟨r', er⟩ : ∃ r', r = r' + 1 := ⟨r - 1, by omega⟩
        subst er
        rw [show fdU W (iM i) (iR i) (r' + 1) (some d) v = (match fbN W (iM i) (iR i) 60 d v with
          | (some r, _) => some r
          | (none, v') => fdU W (iM i) (iR i) r' (upW W d) v') from rfl] at he
        have k1 := (h0.fr fr).1
        have hi1 := hi.fr fr h0.1.2.1.1 h0.1.2.1.2.2.2.1
        obtain ⟨-, ⟨b1, b2', b3, b4⟩, c1, c2, c3⟩ := k1.1.rdA hi1 (Or.inl ho)
        rw [if_pos ho] at c3
        refine itn (oN_nonneg (show d < 2147483648 by omega)) (itn (by decide) ⟨w, k1.1.r45, _, b1, (vp_oN (by omega)).mpr b2', w, k1.1.r45, _, c1, (vp_oN (by omega)).mpr c2, ?_⟩)
        rw [oN_tnc (k := q) (by omega), b3, c3]
        refine ⟨60, Nat.le_refl _, ?_⟩
        refine ct_fbN hI hC b4 ⟨h63.2, h63.1⟩ 60 d v M1 _ k1 hm hd ld (by have := mu_le (W := W) (c := d); omega) (fun M2 f2 m2 => ?_)
        have k2 := (k1.fr f2).1
        have hlt := fbN_lt (W := W) (nm := iM i) (κ := iR i) 60 d v
        refine ct_parentOf k2.1.r45 k2.1.cl hd ?_
        cases ef : fbN W (iM i) (iR i) 60 d v with
        | mk o v' =>
          rw [ef] at m2 hlt he
          cases o with
          | none =>
            by_cases d0 : d = 0
            · have e : upW W d = none := by unfold upW; rw [if_pos d0]
              rw [e] at he ⊢
              exact ihm r' none v' M2 (fr.trans f2) m2 (fun _ z => by cases z) ⟨Or.inl rfl, by have := hr.1.resolve_left (fun z => by cases z); omega⟩ he
            · obtain ⟨e, eu, hel, hee⟩ := hI.up hd ld d0
              rw [eu] at he ⊢
              have he1 : s.1 e = 1 := by
                rcases hee with z | z
                · rw [z]; exact hI.1.2.2.2.2 0 (by omega)
                · exact z.1
              have hmu : mu W e < mu W d := by
                unfold mu
                rw [if_neg d0]
                by_cases e0 : e = 0
                · rw [if_pos e0]; exact rk_pos hd
                · rw [if_neg e0]; exact (hee.resolve_left e0).2
              refine ihm r' (some e) v' M2 (fr.trans f2) m2 (fun d' z => by cases z; exact ⟨hel, he1, by omega⟩) ⟨Or.inr (by have := hr.1.resolve_left (fun z => by cases z); omega), ?_⟩ he
              have := hr.1.resolve_left (fun z => by cases z)
              omega
          | some x =>
            have h1 := hlt x hd rfl
            have h8 := (h0.1.fl.2 x.1 h1.1).1.2
            rw [show fldW W (iM i) (iR i) c = some x from he] at hQ
            obtain ⟨m', em⟩ : ∃ m', m = m' + 1 := ⟨m - 1, by have := hr.1.resolve_left (fun z => by cases z); omega⟩
            subst em
            unfold w_Model_findField_L34
            have hge : (0 : Int32) ≤ oFt (some x) := oN_zero_le (show 8 * x.1 + x.2 < 2147483648 by omega)
            by_cases cu : oC (upW W d) < 0
            · exact itp cu (hQ M2 (fr.trans f2))
            · exact itn cu (itp hge (hQ M2 (fr.trans f2)))
  refine ⟨53, loop 53 52 (some c) [] _ (Fr.wJ rfl (Fr.rf _ _)) ?_ (fun d z => by cases z; exact ⟨hc, hl, by have := mu_le (W := W) (c := c); omega⟩) ⟨Or.inr (by omega), by omega⟩ rfl⟩
  rw [mJ_sJ, if_pos ⟨rfl, rfl, rfl⟩]; exact mkA.nil
/-- what is found in the twin -/
def rcT (f : Nat × Nat → Nat) : Int32 ⊕ (Nat × Nat) → Int32
  | .inl _ => -1
  | .inr r => Int32.ofNat (f r)
abbrev fT (r : Nat × Nat) : Nat := 8 * r.1 + r.2
abbrev mT (r : Nat × Nat) : Nat := 12 * r.1 + r.2
theorem ct_findField {mc mj : Nat} (hWF : WF W) (h : LKt G US A S W w br nq nl nf nk s M) (hI : LInv W s.1) (hB : LB s) (hC : WC W) (hi : TI1 A S w nl nf nk nq q n i M) (ho : isFo i.1) (hmc : mc < W.length) (hmj : mj < (gc W mc).2.2.2.2.2.length)
    (hQ : ∀ M', LKt G US A S W w br nq nl nf nk (fFld br W s (iK i) (iM i) (iR i) (decide (48 ≤ i.1)) (decide (i.1 = 47 ∨ i.1 = 49)) mc (gmt (gc W mc) mj).1).2 M' → (∀ e, (fFld br W s (iK i) (iM i) (iR i) (decide (48 ≤ i.1)) (decide (i.1 = 47 ∨ i.1 = 49)) mc (gmt (gc W mc) mj).1).1 = .inl e → tThr e M') → Q (rcT fT (fFld br W s (iK i) (iM i) (iR i) (decide (48 ≤ i.1)) (decide (i.1 = 47 ∨ i.1 = 49)) mc (gmt (gc W mc) mj).1).1) M') : w_Model_findField 0 (Int32.ofNat i.1) (Int32.ofNat q) (Int32.ofNat (12 * mc + mj)) Q M := by
  have h51 := h.1.l51
  have hbd := hi.2.1
  obtain ⟨⟨a1, a2, a3, a4⟩, -⟩ := h.1.rdA hi (Or.inl ho)
  unfold w_Model_findField
  refine ⟨w, h.1.r45, _, a1, (vp_oN (by omega)).mpr a2, ?_⟩
  rw [oN_tnc (k := q) (by omega), a3]
  refine mf_w_Model_findLinked (Q := fun v M' => v = (match (lkd br W s (iK i)).1 with | .inl _ => -1 | .inr d => Int32.ofNat d) ∧ LKt G US A S W w br nq nl nf nk (lkd br W s (iK i)).2 M' ∧ LInv W (lkd br W s (iK i)).2.1 ∧ ∀ e, (lkd br W s (iK i)).1 = .inl e → tThr e M') (fun v M1 hf ⟨ev, k1, i1, t1⟩ => ?_) (ct_findLinked hWF h hI hB a4 (fun M' a b c => ⟨rfl, a, b, c⟩))
  have hi1 := hi.fr hf h.1.2.1.1 h.1.2.1.2.2.2.1
  rw [ev]
  unfold fFld at hQ
  cases el : lkd br W s (iK i) with
  | mk o s' =>
    rw [el] at k1 i1 t1 hQ
    cases o with
    | inl e =>
      exact itn (show ¬ (0 : Int32) ≤ -1 by decide) (hQ M1 k1 (fun e he => t1 e (by cases he; rfl)))
    | inr d =>
      dsimp only at hQ k1 i1
      obtain ⟨hf1, -, hl⟩ := lkd_in el
      have hd := fnd_lt hf1
      refine itp (oN_zero_le (show d < 2147483648 by omega)) (ct_fieldL k1 i1 hC hi1 ho hd hl (fun M2 f2 => ?_))
      have k2 := (k1.fr f2).1
      unfold w_Model_findField_j81
      cases ef : fldW W (iM i) (iR i) d with
      | none =>
        rw [ef] at hQ
        refine itn (show ¬ (0 : Int32) ≤ -1 by decide) (ct_fails (ru := 51) (f := 12) (by omega) (by omega) (fun M3 f3 th => ?_))
        exact hQ M3 (k2.fr f3).1 (fun e he => by cases he; exact th)
      | some r =>
        rw [ef] at hQ
        dsimp only at hQ
        have hr := fldW_ok hd ef
        have hfl := k2.1.fl
        have h8 := (hfl.2 r.1 hr.1).1.2
        have hg := (hfl.2 r.1 hr.1).2 r.2 hr.2.1
        have hms := (k2.1.mcn hmc).2
        have ms' := (k2.1.mcn hr.1).2
        refine itp (oN_zero_le (show 8 * r.1 + r.2 < 2147483648 by omega)) ⟨by decide, w, k2.1.r45, by rw [hfl.1.2.2.1]; exact (vp_oN (show 8 * r.1 + r.2 < 2147483648 by omega)).mpr (by omega), ?_⟩
        rw [show oFt (some r) = Int32.ofNat (8 * r.1 + r.2) from rfl]
        rw [oN_tnc (k := 8 * r.1 + r.2) (by omega), hg.2.2.1, show Int32.ofNat (8 * r.1 + r.2) / (8 : Int32) = Int32.ofNat r.1 from by rw [show (8 : Int32) = Int32.ofNat 8 from rfl, oN_div (by omega) (by omega)]; congr 1; omega]
        generalize hfg : (gfl (gc W r.1) r.2).2.2.1 = fl
        unfold fFld2 at hQ
        rw [hfg] at hQ
        generalize hfx : decide (48 ≤ i.1) = fx at hQ
        generalize hpt : decide (i.1 = 47 ∨ i.1 = 49) = pt at hQ
        -- the end
        have fin : ∀ (M3 : Mem) (y : Int32 ⊕ (Nat × Nat)), Fr SFl2 M2 M3 → (∀ e, y = .inl e → tThr e M3) → y = (if ¬ fl &&& 4 = 0 ∧ r.1 ≠ mc ∧ brk br 5 = true then .inl 5314
            else if decide (¬ fl &&& 1 = 0) ≠ fx ∨ (fx = false ∧ isFc W r.1 = true) then .inl 5515
            else if pt = true ∧ ¬ fl &&& 2 = 0 ∧ ¬ (r.1 = mc ∧ (gmt (gc W mc) mj).1 = if fx then nStart else nMake) ∧ brk br 6 = true then .inl 5414
            else .inr r) → Q (rcT fT y) M3 := fun M3 y f3 th ey => by
          have := hQ M3 (k2.fr f3).1
          rw [← ey] at this
          exact this th
        have fails : ∀ (ru f : Nat), ru < 100 → f < 100 → (.inl (Int32.ofNat (100 * ru + f)) : Int32 ⊕ (Nat × Nat)) = (if ¬ fl &&& 4 = 0 ∧ r.1 ≠ mc ∧ brk br 5 = true then .inl 5314
            else if decide (¬ fl &&& 1 = 0) ≠ fx ∨ (fx = false ∧ isFc W r.1 = true) then .inl 5515
            else if pt = true ∧ ¬ fl &&& 2 = 0 ∧ ¬ (r.1 = mc ∧ (gmt (gc W mc) mj).1 = if fx then nStart else nMake) ∧ brk br 6 = true then .inl 5414
            else .inr r) → w_Model_fails 0 (Int32.ofNat ru) (Int32.ofNat f) (fun r14 M13 => Q r14 M13) M2 := fun ru f h1 h2 ey =>
          ct_fails h2 h1 (fun M3 f3 th => fin M3 (.inl (Int32.ofNat (100 * ru + f))) f3 (fun e he => by cases he; exact th) ey)
        have done : (.inr r : Int32 ⊕ (Nat × Nat)) = (if ¬ fl &&& 4 = 0 ∧ r.1 ≠ mc ∧ brk br 5 = true then .inl 5314
            else if decide (¬ fl &&& 1 = 0) ≠ fx ∨ (fx = false ∧ isFc W r.1 = true) then .inl 5515
            else if pt = true ∧ ¬ fl &&& 2 = 0 ∧ ¬ (r.1 = mc ∧ (gmt (gc W mc) mj).1 = if fx then nStart else nMake) ∧ brk br 6 = true then .inl 5414
            else .inr r) → Q (Int32.ofNat (8 * r.1 + r.2)) M2 := fun ey => fin M2 (.inr r) (Fr.rf _ _) (fun e he => by cases he) ey
        have n6 := k2.1.1.2.2.1 (6, nMake) (by decide)
        have n7 := k2.1.1.2.2.1 (7, nStart) (by decide)
        have hd' := (k2.1.hd hmc hmj).1
        have hLA := k2.1.2.2.1
        -- what a final field asks
        have j224 : ¬ (¬ fl &&& 4 = 0 ∧ r.1 ≠ mc ∧ brk br 5 = true) → ¬ (decide (¬ fl &&& 1 = 0) ≠ fx ∨ (fx = false ∧ isFc W r.1 = true)) → w_Model_findField_j224 0 Q (Int32.ofNat i.1) (Int32.ofNat (12 * mc + mj)) (Int32.ofNat (8 * r.1 + r.2)) fl (b2 fx) (b2 (decide (r.1 ≠ mc))) M2 := fun n1 n2 => by
          rw [if_neg n1, if_neg n2] at done fails
          have j241 : w_Model_findField_j241 0 Q (Int32.ofNat (12 * mc + mj)) (Int32.ofNat (8 * r.1 + r.2)) fl (b2 fx) (b2 (decide (r.1 ≠ mc))) (b2 pt) M2 := by
            unfold w_Model_findField_j241
            refine ct_isOff (bit := 6) k2.1.1.1.1.1 ?_
            cases e6 : brk br 6 with
            | false => exact itn (by decide) (done (by rw [if_neg (fun z => by rw [e6] at z; cases z.2.2.2)]))
            | true =>
              refine itp rfl ?_
              cases ept : pt with
              | false => exact itp rfl (done (by rw [if_neg (fun z => by rw [ept] at z; cases z.1)]))
              | true =>
                subst ept
                refine itn (by decide) ?_
                by_cases c2 : fl &&& 2 = 0
                · exact itp c2 (done (by rw [if_neg (fun z => z.2.1 c2)]))
                refine itn c2 ?_
                by_cases cm : r.1 = mc
                · rw [decide_eq_false (fun z => z cm)]
                  refine itp rfl ⟨w, k2.1.r45, by rw [k2.1.ml (f := 144) (by omega) (by omega)]; exact (vp_oN (by omega)).mpr (by omega), ?_⟩
                  rw [oN_tnc (k := 12 * mc + mj) (by omega), hd'.1, n6.1, n7.1]
                  unfold w_Model_findField_j294 w_Model_findField_j297
                  cases efx : fx with
                  | false =>
                    subst efx
                    refine itp rfl ?_
                    by_cases c3 : (gmt (gc W mc) mj).1 = nMake
                    · exact itp (by rw [c3]) (done (by rw [if_neg (fun z => z.2.2.1 ⟨cm, c3⟩)]))
                    · exact itn (fun z => c3 ((nc_inj (by omega) hd'.2 n6.2).mp z)) (fails 54 14 (by omega) (by omega) (by rw [if_pos ⟨rfl, c2, fun z => c3 z.2, e6⟩]; rfl))
                  | true =>
                    subst efx
                    refine itn (by decide) ?_
                    by_cases c3 : (gmt (gc W mc) mj).1 = nStart
                    · exact itp (by rw [c3]) (done (by rw [if_neg (fun z => z.2.2.1 ⟨cm, c3⟩)]))
                    · exact itn (fun z => c3 ((nc_inj (by omega) hd'.2 n7.2).mp z)) (fails 54 14 (by omega) (by omega) (by rw [if_pos ⟨rfl, c2, fun z => c3 z.2, e6⟩]; rfl))
                · rw [decide_eq_true cm]
                  refine itn (by decide) ?_
                  unfold w_Model_findField_j297
                  exact fails 54 14 (by omega) (by omega) (by rw [if_pos ⟨rfl, c2, fun z => cm z.1, e6⟩]; rfl)
          unfold w_Model_findField_j224 w_Model_findField_j236
          have h47 : Int32.ofNat i.1 = (47 : Int32) ↔ i.1 = 47 := oN_inj (b := 47) (by omega) (by omega)
          have h49 : Int32.ofNat i.1 = (49 : Int32) ↔ i.1 = 49 := oN_inj (b := 49) (by omega) (by omega)
          by_cases c7 : i.1 = 47
          · have : pt = true := by rw [← hpt]; exact decide_eq_true (Or.inl c7)
            rw [this] at j241
            exact itp (h47.mpr c7) j241
          refine itn (fun z => c7 (h47.mp z)) ?_
          by_cases c9 : i.1 = 49
          · have : pt = true := by rw [← hpt]; exact decide_eq_true (Or.inr c9)
            rw [this] at j241
            exact itp (h49.mpr c9) j241
          · have : pt = false := by rw [← hpt]; exact decide_eq_false (fun z => z.elim c7 c9)
            rw [this] at j241
            exact itn (fun z => c9 (h49.mp z)) j241
        have j178 : ¬ (¬ fl &&& 4 = 0 ∧ r.1 ≠ mc ∧ brk br 5 = true) → w_Model_findField_j178 0 Q (Int32.ofNat i.1) (Int32.ofNat (12 * mc + mj)) (Int32.ofNat (8 * r.1 + r.2)) (Int32.ofNat r.1) fl (b2 fx) (b2 (decide (r.1 ≠ mc))) M2 := fun n1 => by
          have bad : (decide (¬ fl &&& 1 = 0) ≠ fx ∨ (fx = false ∧ isFc W r.1 = true)) → w_Model_findField_j215 0 Q M2 := fun z => by
            unfold w_Model_findField_j215
            exact fails 55 15 (by omega) (by omega) (by rw [if_neg n1, if_pos z]; rfl)
          have j190 : ∀ b : Bool, b = decide (¬ fl &&& 1 = 0) → w_Model_findField_j190 0 Q (Int32.ofNat i.1) (Int32.ofNat (12 * mc + mj)) (Int32.ofNat (8 * r.1 + r.2)) (Int32.ofNat r.1) fl (b2 fx) (b2 (decide (r.1 ≠ mc))) (b2 b) M2 := fun b hb => by
            unfold w_Model_findField_j190
            by_cases cb : b = fx
            · refine itp (by rw [cb]) ?_
              have hne : ¬ decide (¬ fl &&& 1 = 0) ≠ fx := fun z => z (hb.symm.trans cb)
              cases efx : fx with
              | false =>
                subst efx
                have r132 := (k2.1.cl.2.2 r.1 hr.1).2.2
                refine itp rfl ⟨w, k2.1.r45, by rw [k2.1.cl.2.1.2.2.2]; exact (vp_oN (by omega)).mpr (by omega), ?_⟩
                rw [oN_tnc (k := r.1) (by omega), r132]
                by_cases ci : (gc W r.1).2.2.2.1 &&& 4 = 0
                · exact itp ci (j224 n1 (fun z => z.elim hne (fun z => by have := z.2; unfold isFc at this; exact of_decide_eq_true this ci)))
                · exact itn ci (bad (Or.inr ⟨rfl, decide_eq_true ci⟩))
              | true =>
                subst efx
                exact itn (by decide) (j224 n1 (fun z => z.elim hne (fun z => by cases z.1)))
            · refine itn (fun z => cb ?_) (bad (Or.inl (fun z => cb (hb.trans z))))
              cases b <;> cases fx <;> first | rfl | exact absurd z (by decide)
          unfold w_Model_findField_j178
          by_cases c1 : fl &&& 1 = 0
          · exact itp c1 (j190 false (by rw [decide_eq_false (fun z => z c1)]))
          · exact itn c1 (j190 true (by rw [decide_eq_true c1]))
        have j131 : w_Model_findField_j131 0 Q (Int32.ofNat i.1) (Int32.ofNat (12 * mc + mj)) (Int32.ofNat (8 * r.1 + r.2)) (Int32.ofNat r.1) fl (b2 fx) M2 := by
          have j147 : ∀ b : Bool, b = decide (r.1 ≠ mc) → w_Model_findField_j147 0 Q (Int32.ofNat i.1) (Int32.ofNat (12 * mc + mj)) (Int32.ofNat (8 * r.1 + r.2)) (Int32.ofNat r.1) fl (b2 fx) (b2 b) M2 := fun b hb => by
            subst hb
            unfold w_Model_findField_j147
            refine ct_isOff (bit := 5) k2.1.1.1.1.1 ?_
            cases e5 : brk br 5 with
            | false => exact itn (by decide) (j178 (fun z => by rw [e5] at z; cases z.2.2))
            | true =>
              refine itp rfl ?_
              by_cases c4 : fl &&& 4 = 0
              · exact itp c4 (j178 (fun z => z.1 c4))
              refine itn c4 ?_
              by_cases cm : r.1 = mc
              · have := j178 (fun z => z.2.1 cm)
                rw [decide_eq_false (fun z => z cm)] at this ⊢
                exact itp rfl this
              · rw [decide_eq_true cm]
                exact itn (by decide) (fails 53 14 (by omega) (by omega) (by rw [if_pos ⟨c4, cm, e5⟩]; rfl))
          unfold w_Model_findField_j131
          rw [show Int32.ofNat (12 * mc + mj) / (12 : Int32) = Int32.ofNat mc from by rw [show (12 : Int32) = Int32.ofNat 12 from rfl, oN_div (by omega) (by omega)]; congr 1; omega]
          refine ⟨by decide, ?_⟩
          by_cases cm : r.1 = mc
          · exact itp (by rw [cm]) (j147 false (decide_eq_false (fun z => z cm)).symm)
          · exact itn (ne_oN cm (by omega) (by omega)) (j147 true (decide_eq_true cm).symm)
        have h48 : Int32.ofNat i.1 = (48 : Int32) ↔ i.1 = 48 := oN_inj (b := 48) (by omega) (by omega)
        have h49 : Int32.ofNat i.1 = (49 : Int32) ↔ i.1 = 49 := oN_inj (b := 49) (by omega) (by omega)
        unfold w_Model_findField_j126
        by_cases c8 : i.1 = 48
        · have : fx = true := by rw [← hfx]; exact decide_eq_true (by omega)
          rw [this] at j131
          exact itp (h48.mpr c8) j131
        refine itn (fun z => c8 (h48.mp z)) ?_
        by_cases c9 : i.1 = 49
        · have : fx = true := by rw [← hfx]; exact decide_eq_true (by omega)
          rw [this] at j131
          exact itp (h49.mpr c9) j131
        · have : fx = false := by rw [← hfx]; exact decide_eq_false (by omega)
          rw [this] at j131
          exact itn (fun z => c9 (h49.mp z)) j131
end
