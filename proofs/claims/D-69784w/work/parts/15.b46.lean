theorem pType_kind {ts t2 : List Tok} {κ : Kd} (h : pType ts = .inr (κ, t2)) : κ = (0, []) ∨ κ = (1, []) ∨ κ.1 = 2 := by
  unfold pType at h
  split at h
  · exact Or.inl (Prod.mk.inj (Sum.inr.inj h)).1.symm
  · split at h
    · exact Or.inr (Or.inl (Prod.mk.inj (Sum.inr.inj h)).1.symm)
    · split at h
      · cases h
      · have := (Prod.mk.inj (Sum.inr.inj h)).1
        exact Or.inr (Or.inr (by rw [← this]))
theorem kt_num {A : List Nm} {κ : Kd} (h : κ = (0, []) ∨ κ = (1, []) ∨ κ.1 = 2) (hk : kok A κ) (hA : A.length ≤ 200000) : kt A κ = 1 ↔ κ = (0, []) := by
  rcases h with e | e | e
  · subst e; exact ⟨fun _ => rfl, fun _ => rfl⟩
  · subst e; exact ⟨fun q => absurd q (by show ¬ (2 : Int32) = 1; decide), fun q => absurd q (by decide)⟩
  · have := List.idxOf_lt_length_iff.mpr (hk e)
    unfold kt
    rw [if_pos e]
    refine ⟨fun q => absurd ((oN_inj (b := 1) (by omega) (by omega)).mp q) (by omega), fun q => by rw [q] at e; exact absurd e (by decide)⟩
set_option maxRecDepth 4000 in
/-- behind what is read: the rules, then it is laid -/
theorem ct_fieldRules {G : List Sl} {A : List Nm} {W : List Cls} {w c : Nat} {br bits v : Int32} {own : Nm} {κ : Kd} {has : Bool} {L t : List Tok} {Q X : Mem → Prop} {M0 M : Mem} (hG : Ga G) (ho : own ∈ A) (hk : kok A κ) (hkk : κ = (0, []) ∨ κ = (1, []) ∨ κ.1 = 2) (hB : B2 G A W w c br L t 99 M0 M)
    (hQ0 : ∀ M', rulF br (gc W c) bits own κ has < 99 → mI M' 11 0 51 = Int32.ofNat (rulF br (gc W c) bits own κ has) → Cx1 A W w br M' → tFl A W w M' → GF G [] M0 M' → LoT w c M0 M' → Q M')
    (hQ1 : ∀ M', rulF br (gc W c) bits own κ has = 99 → mI M' 11 0 51 = Int32.ofNat 99 → Cx1 A (addF W c (own, κ, bits, v, has)) w br M' → tFl A (addF W c (own, κ, bits, v, has)) w M' → (∀ k, mI M' 143 w k = if k = 8 * c + (gc W c).2.2.2.2.1.length then 0 else mI M0 143 w k) → GF G [] M0 M' → LoT w c M0 M' → Q M') :
    w_Model_fieldLine_L197 0 Q X ((gc W c).2.2.2.2.1.length + 1) bits (nc A own) (kt A κ) (b2 has) v (Int32.ofNat (gc W c).2.2.2.2.1.length) (Int32.ofNat (8 * c)) (Int32.ofNat 0) M := by
  have hc := hB.1.2.2.2.2.2.2.1
  have hAl := hB.1.1.1.2.2.1
  have hWl := hB.1.2.1.1.1.1.2.2.1
  have hn8 := (hB.1.2.2.2.2.1.2 c hc).1.2
  -- the last rule, and the end
  have j334 : ∀ (a b d e : Bool) M1, a = (gc W c).2.2.2.2.1.any (fun f => decide (f.1 = own)) → b = (decide (¬ (gc W c).2.2.2.1 &&& 4 = 0) && (brk br 1 && decide (¬ bits &&& 3 = 3))) → d = decide ((gc W c).2.2.2.2.1.length = 8) → e = (has && (decide (bits &&& 1 = 0) || decide (κ ≠ (0, [])))) → B2 G A W w c br L t (lst (lst (lst 99 3 a) 5 b) 12 d) M0 M1 → w_Model_fieldLine_j334 0 Q X bits (nc A own) (kt A κ) (b2 has) v (Int32.ofNat (gc W c).2.2.2.2.1.length) (Int32.ofNat (8 * c)) (b2 e) 14 M1 := by
    intro a b d e M1 ea eb ed ee hB1
    unfold w_Model_fieldLine_j334
    refine hB1.asks (rule := 14) hG (lst_le (lst_le (lst_le (by omega) (by omega)) (by omega)) (by omega)) (by omega) (fun M2 hB2 => ?_)
    have hr : lst (lst (lst (lst 99 3 a) 5 b) 12 d) 14 e = rulF br (gc W c) bits own κ has := by
      rw [lst_fin4, ea, eb, ed, ee]; rfl
    rw [hr] at hB2
    obtain ⟨⟨hq, hC, h51, hF, hfl, h53, -, h143⟩, hlo⟩ := id hB2
    obtain ⟨hT, hw, hbr, hln⟩ := id hC
    obtain ⟨⟨a1, a2, a3, a4, a5, a6⟩, bf⟩ := id hfl
    have hr99 : rulF br (gc W c) bits own κ has ≤ 99 := by
      unfold rulF
      repeat' split
      all_goals omega
    rw [h51]
    by_cases c99 : rulF br (gc W c) bits own κ has = 99
    · have hn : (gc W c).2.2.2.2.1.length < 8 := by
        refine Nat.lt_of_le_of_ne hn8 (fun q => ?_)
        unfold rulF at c99
        rw [decide_eq_true q] at c99
        split at c99
        · omega
        · split at c99
          · omega
          · rw [if_pos rfl] at c99; omega
      refine itp (by rw [c99]; decide) ?_
      have eat : (Int32.ofNat (8 * c) + Int32.ofNat (gc W c).2.2.2.2.1.length) = Int32.ofNat (8 * c + (gc W c).2.2.2.2.1.length) := oN_add _ _
      have vat : vp_in (Int32.ofNat (8 * c + (gc W c).2.2.2.2.1.length)) 408 := (vp_oN (by omega)).mpr (by omega)
      have vc : vp_in (Int32.ofNat c) 51 := (vp_oN (by omega)).mpr (by omega)
      rw [eat, oN_tnc (k := 8 * c + (gc W c).2.2.2.2.1.length) (by omega)]
      refine ⟨w, hw, by rw [a1]; exact vat, w, hw, by show vp_in _ (mL M2 140 w); rw [a2]; exact vat, _, rfl, w, hw, by show vp_in _ (mL M2 141 w); rw [a3]; exact vat, w, hw, by show vp_in _ (mL M2 142 w); rw [a4]; exact vat, _, rfl, w, hw, by show vp_in _ (mL M2 523 w); rw [a5]; exact vat, w, hw, by show vp_in _ (mL M2 143 w); rw [a6]; exact vat, _, rfl, w, hw, ?_⟩
      simp only [mI_sI, Nat.reduceEqDiff, false_and, if_false, h53, oN_tnc (k := c) (show c < 2147483648 by omega), (bf c hc).1.1]
      refine ⟨by show vp_in _ (mL M2 135 w); rw [hln.1]; exact vc, by show vp_in _ (mL M2 135 w); rw [hln.1]; exact vc, _, rfl, ?_⟩
      have hb2 : (b2 has &&& 1) = b2 has := by cases has <;> decide
      have hb3 : (b2 has &&& Int32.ofNat 1) = b2 has := hb2
      refine hQ1 _ c99 (by rw [← c99]; exact h51) ⟨(hT.setF hc).of rfl (fun f x y k => ?_) (fun f x y => rfl), hw, hbr, hln⟩ (hfl.setF hc hn ho hk (fun k => by simp only [mI_sI, Nat.reduceEqDiff, false_and, if_false, true_and, lit32 1, oN_add, and_self, if_true, hb2, hb3]) (fun k => by simp only [mI_sI, Nat.reduceEqDiff, false_and, if_false, true_and, lit32 1, oN_add, and_self, if_true, hb2, hb3]) (fun k => by simp only [mI_sI, Nat.reduceEqDiff, false_and, if_false, true_and, lit32 1, oN_add, and_self, if_true, hb2, hb3]) (fun k => by simp only [mI_sI, Nat.reduceEqDiff, false_and, if_false, true_and, lit32 1, oN_add, and_self, if_true, hb2, hb3]) (fun k => by simp only [mI_sI, Nat.reduceEqDiff, false_and, if_false, true_and, lit32 1, oN_add, and_self, if_true, hb2, hb3]) (fun k => by simp only [mI_sI, Nat.reduceEqDiff, false_and, if_false, true_and, lit32 1, oN_add, and_self, if_true, hb2, hb3]) (fun f => rfl)) (fun k => by simp only [mI_sI, Nat.reduceEqDiff, false_and, if_false, true_and, lit32 1, oN_add, and_self, if_true, hb2, hb3, h143]) (hF.of (fun s hs => rfl) (fun s hs' i k => ?_) (fun s hs i => rfl) rfl rfl) (((((((hlo.w (Nat.le_add_right (8 * c) _)).w (Nat.le_add_right (8 * c) _)).w (Nat.le_add_right (8 * c) _)).w (Nat.le_add_right (8 * c) _)).w (Nat.le_add_right (8 * c) _)).w (Nat.le_add_right (8 * c) _)).w (Nat.le_refl c))
      · have : f = 130 ∨ f = 131 ∨ f = 132 ∨ f = 133 ∨ f = 134 := by omega
        rcases this with q | q | q | q | q <;> (subst q; rfl)
      · have := (hG.2.2 s hs').2
        rcases this with q | q | q <;> (rw [q]; simp [mI_sI])
    · refine itn (nle_oN (a := 99) (by omega) (by omega)) (hQ0 M2 (by omega) h51 hC hfl hF hlo)
  have j306 : ∀ (a b d : Bool) M1, a = (gc W c).2.2.2.2.1.any (fun f => decide (f.1 = own)) → b = (decide (¬ (gc W c).2.2.2.1 &&& 4 = 0) && (brk br 1 && decide (¬ bits &&& 3 = 3))) → d = decide ((gc W c).2.2.2.2.1.length = 8) → B2 G A W w c br L t (lst (lst 99 3 a) 5 b) M0 M1 → w_Model_fieldLine_j306 0 Q X bits (nc A own) (kt A κ) (b2 has) v (Int32.ofNat (gc W c).2.2.2.2.1.length) (Int32.ofNat (8 * c)) (b2 d) 12 M1 := by
    intro a b d M1 ea eb ed hB1
    unfold w_Model_fieldLine_j306
    refine hB1.asks (rule := 12) hG (lst_le (lst_le (by omega) (by omega)) (by omega)) (by omega) (fun M2 hB2 => ?_)
    have no : (has && (decide (bits &&& 1 = 0) || decide (κ ≠ (0, [])))) = false → w_Model_fieldLine_j333 0 Q X bits (nc A own) (kt A κ) (b2 has) v (Int32.ofNat (gc W c).2.2.2.2.1.length) (Int32.ofNat (8 * c)) 14 M2 := fun q => by
      unfold w_Model_fieldLine_j333; exact j334 a b d false M2 ea eb ed q.symm hB2
    have ye : (has && (decide (bits &&& 1 = 0) || decide (κ ≠ (0, [])))) = true → w_Model_fieldLine_j329 0 Q X bits (nc A own) (kt A κ) (b2 has) v (Int32.ofNat (gc W c).2.2.2.2.1.length) (Int32.ofNat (8 * c)) 14 M2 := fun q => by
      unfold w_Model_fieldLine_j329; exact j334 a b d true M2 ea eb ed q.symm hB2
    cases has with
    | false => exact itp rfl (no rfl)
    | true =>
      refine itn (by decide) ?_
      by_cases c1 : bits &&& 1 = 0
      · exact itp c1 (ye (by rw [decide_eq_true c1]; rfl))
      · refine itn c1 ?_
        by_cases c2 : κ = (0, [])
        · exact itp ((kt_num hkk hk hAl).mpr c2) (no (by rw [decide_eq_false c1, decide_eq_false (fun x => x c2)]; rfl))
        · exact itn (fun q => c2 ((kt_num hkk hk hAl).mp q)) (ye (by rw [decide_eq_true c2]; simp))
  have j288 : ∀ (a b : Bool) M1, a = (gc W c).2.2.2.2.1.any (fun f => decide (f.1 = own)) → b = (decide (¬ (gc W c).2.2.2.1 &&& 4 = 0) && (brk br 1 && decide (¬ bits &&& 3 = 3))) → B2 G A W w c br L t (lst 99 3 a) M0 M1 → w_Model_fieldLine_j288 0 Q X bits (nc A own) (kt A κ) (b2 has) v (Int32.ofNat (gc W c).2.2.2.2.1.length) (Int32.ofNat (8 * c)) (b2 b) 5 M1 := by
    intro a b M1 ea eb hB1
    unfold w_Model_fieldLine_j288
    refine hB1.asks (rule := 5) hG (lst_le (by omega) (by omega)) (by omega) (fun M2 hB2 => ?_)
    by_cases c8 : (gc W c).2.2.2.2.1.length = 8
    · exact itp (by rw [c8]; rfl) (j306 a b true M2 ea eb (decide_eq_true c8).symm hB2)
    · exact itn (ne_oN (b := 8) c8 (by omega) (by omega)) (j306 a b false M2 ea eb (decide_eq_false c8).symm hB2)
  have loop : ∀ d k M1, (gc W c).2.2.2.2.1.length - k < d → k ≤ (gc W c).2.2.2.2.1.length → B2 G A W w c br L t (lst 99 3 (((gc W c).2.2.2.2.1.take k).any (fun f => decide (f.1 = own)))) M0 M1 → w_Model_fieldLine_L197 0 Q X d bits (nc A own) (kt A κ) (b2 has) v (Int32.ofNat (gc W c).2.2.2.2.1.length) (Int32.ofNat (8 * c)) (Int32.ofNat k) M1 := by
    intro d
    induction d with
    | zero => intro k M1 h; omega
    | succ d ih =>
      intro k M1 hd' hk' hB1
      obtain ⟨⟨hq, hC, h51, hF, hfl, h53, -⟩, hlo⟩ := id hB1
      unfold w_Model_fieldLine_L197
      by_cases ek : k = (gc W c).2.2.2.2.1.length
      · refine itp (le_oN (by omega) (by omega)) ⟨w, hC.2.1, ?_⟩
        rw [ek, List.take_length] at hB1
        rw [h53, oN_tnc (by omega), hC.1.2.1.2.2.2, (hC.1.2.2 c hc).2.2]
        refine ⟨(vp_oN (by omega)).mpr (by omega), ?_⟩
        have j287 : (decide (¬ (gc W c).2.2.2.1 &&& 4 = 0) && (brk br 1 && decide (¬ bits &&& 3 = 3))) = false → w_Model_fieldLine_j287 0 Q X bits (nc A own) (kt A κ) (b2 has) v (Int32.ofNat (gc W c).2.2.2.2.1.length) (Int32.ofNat (8 * c)) 5 M1 := fun q => by
          unfold w_Model_fieldLine_j287; exact j288 _ false M1 rfl q.symm hB1
        by_cases cf : (gc W c).2.2.2.1 &&& 4 = 0
        · refine itp cf ?_
          unfold w_Model_fieldLine_j259
          exact itp rfl (j287 (by rw [decide_eq_false (fun x => x cf)]; rfl))
        · refine itn cf ?_
          unfold w_Model_fieldLine_j259
          refine itn (by decide) (ct_isOff (bit := 1) hC ?_)
          rw [decide_eq_true cf, Bool.true_and] at j287
          cases cb : brk br 1 with
          | false => exact itn (by decide) (j287 (by rw [cb]; rfl))
          | true =>
            refine itp (by decide) ?_
            rw [cb, Bool.true_and] at j287
            by_cases c3 : bits &&& 3 = 3
            · exact itp c3 (j287 (decide_eq_false (fun x => x c3)))
            · exact itn c3 (j288 _ true M1 rfl (by rw [decide_eq_true cf, cb, decide_eq_true c3]; rfl) hB1)
      · refine itn (nle_oN (by omega) (by omega)) ⟨w, hC.2.1, ?_⟩
        obtain ⟨⟨p1, p2⟩, -⟩ := (hfl.2 c hc).2 k (by omega)
        rw [oN_add, oN_tnc (by omega), hfl.1.1, p1]
        refine ⟨(vp_oN (by omega)).mpr (by omega), ?_⟩
        have htk : (gc W c).2.2.2.2.1.take (k + 1) = (gc W c).2.2.2.2.1.take k ++ [gfl (gc W c) k] := by
          rw [List.take_add_one, List.getElem?_eq_getElem (show k < (gc W c).2.2.2.2.1.length by omega)]
          show _ ++ [_] = _ ++ [(gc W c).2.2.2.2.1.getD k _]
          rw [List.getD_eq_getElem?_getD, List.getElem?_eq_getElem (show k < (gc W c).2.2.2.2.1.length by omega)]; rfl
        have j228 : ∀ b : Bool, b = decide ((gfl (gc W c) k).1 = own) → w_Model_fieldLine_j228 0 Q X (w_Model_fieldLine_L197 0 Q X d) bits (nc A own) (kt A κ) (b2 has) v (Int32.ofNat (gc W c).2.2.2.2.1.length) (Int32.ofNat (8 * c)) (Int32.ofNat k) (b2 b) 3 M1 := by
          intro b hb
          unfold w_Model_fieldLine_j228
          refine hB1.asks (rule := 3) hG (lst_le (by omega) (by omega)) (by omega) (fun M2 hB2 => ?_)
          rw [lit32 1, oN_add]
          refine ih (k + 1) M2 (by omega) (by omega) ?_
          rw [lst_or] at hB2
          rw [htk, List.any_append]
          simp only [List.any_cons, List.any_nil, Bool.or_false]
          rw [← hb]; exact hB2
        by_cases ce : (gfl (gc W c) k).1 = own
        · exact itp (by rw [ce]) (j228 true (decide_eq_true ce).symm)
        · exact itn (fun q => ce ((nc_inj (by omega) p2 ho).mp q)) (j228 false (decide_eq_false ce).symm)
  refine loop _ 0 M (by omega) (by omega) ?_
  have : lst 99 3 (((gc W c).2.2.2.2.1.take 0).any (fun f => decide (f.1 = own))) = 99 := by simp [lst]
  rw [this]; exact hB
