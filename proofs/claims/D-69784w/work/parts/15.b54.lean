/-! B: a field's line in the works -/
theorem cCl.of {A : List Nm} {W : List Cls} {w : Nat} {M M' : Mem} (h : cCl A W w M) (e0 : mI M' 5 w 2 = mI M 5 w 2) (e1 : ∀ f, 36 ≤ f → f ≤ 40 → ∀ k, k < (if f = 38 then 4 * W.length else W.length) → mI M' f w k = mI M f w k) (l : ∀ f, 36 ≤ f → f ≤ 40 → mL M' f w = mL M f w) : cCl A W w M' := by
  obtain ⟨⟨⟨x1, x2, x3, x4⟩, x5⟩, ⟨y1, y2, y3, y4⟩, y5⟩ := h
  refine ⟨⟨⟨e0.trans x1, (l 36 (by omega) (by omega)).trans x2, x3, x4⟩, fun c hc => by rw [e1 36 (by omega) (by omega) c hc]; exact x5 c hc⟩, ⟨(l 37 (by omega) (by omega)).trans y1, (l 38 (by omega) (by omega)).trans y2, (l 39 (by omega) (by omega)).trans y3, (l 40 (by omega) (by omega)).trans y4⟩, fun c hc => ?_⟩
  obtain ⟨z1, z2, z3⟩ := y5 c hc
  exact ⟨⟨(e1 37 (by omega) (by omega) c hc).trans z1.1, z1.2⟩, ⟨(e1 39 (by omega) (by omega) c hc).trans z2.1, z2.2.1, fun i hi => by rw [e1 38 (by omega) (by omega) (4 * c + i) (by show 4 * c + i < 4 * W.length; omega)]; exact z2.2.2 i hi⟩, (e1 40 (by omega) (by omega) c hc).trans z3⟩
theorem cCl.setF {A : List Nm} {W : List Cls} {w c : Nat} {f : Fld} {M : Mem} (h : cCl A W w M) (hc : c < W.length) : cCl A (addF W c f) w M := by
  obtain ⟨⟨x, x5⟩, y, y5⟩ := h
  refine ⟨⟨by rw [addF_len]; exact x, fun j hj => ?_⟩, y, fun j hj => ?_⟩
  · rw [addF_len] at hj
    rw [(gc_addF1 hc).1]; exact x5 j hj
  · rw [addF_len] at hj
    obtain ⟨e1, e2, e3, e4⟩ := gc_addF1 (f := f) (j := j) hc
    rw [e1, e2, e4]
    have := y5 j hj
    refine ⟨this.1, ?_, this.2.2⟩
    unfold gf
    rw [e3]; exact this.2.1
/-- the works' world and where the reader is in it -/
def C4 (A : List Nm) (W : List Cls) (w c : Nat) (br : Int32) (M : Mem) : Prop :=
  cCl A W w M ∧ cFl A W w M ∧ mR M 3 0 1 = some (5, w) ∧ mI M 3 0 3 = Int32.ofNat c ∧ mI M 5 w 1 = br
theorem C4.pq {W : List Cls} {w c : Nat} {br : Int32} : PQ (fun A M => C4 A W w c br M) := fun A A' M M' h hp hl hw => by
  have h0 : C3 A W w c br 0 (sI M 3 0 2 (Int32.ofNat 0)) := ⟨h.1, h.2.1, h.2.2.1, h.2.2.2.1, rfl, h.2.2.2.2⟩
  have hf : Fr (F_Reader_types ||| F_Reader_needLine) M M' := hw.1
  have hI : ∀ {f : Nat}, f ∈ [36, 37, 38, 39, 40, 41, 42, 49, 50, 51, 52, 53, 54, 511] → ∀ i k, mI M' f i k = mI M f i k := fun {f} hm i k => by
    simp only [List.mem_cons, List.not_mem_nil, or_false] at hm
    rcases hm with e | e | e | e | e | e | e | e | e | e | e | e | e | e <;> (subst e; exact hf.Ia rfl rfl i k)
  have hL : ∀ {f : Nat}, f ∈ [36, 37, 38, 39, 40, 41, 42, 49, 50, 51, 52, 53, 54, 511] → ∀ i, mL M' f i = mL M f i := fun {f} hm i => by
    simp only [List.mem_cons, List.not_mem_nil, or_false] at hm
    rcases hm with e | e | e | e | e | e | e | e | e | e | e | e | e | e <;> (subst e; exact hf.L rfl i)
  clear h0
  obtain ⟨⟨⟨⟨x1, x2, x3, x4⟩, x5⟩, ⟨y1, y2, y3, y4⟩, y5⟩, ⟨⟨a1, ⟨b1, b2', b3, b4, b5, b6, b7⟩, a3, a4⟩, d, e⟩, g1, g2, g4⟩ := h
  have r : C4 A W w c br M' := by
    refine ⟨⟨⟨⟨(hf.I (f := 5) (k := 2) rfl w).trans x1, (hL (by simp) w).trans x2, x3, x4⟩, fun j hj => by rw [hI (by simp)]; exact x5 j hj⟩, ⟨(hL (by simp) w).trans y1, (hL (by simp) w).trans y2, (hL (by simp) w).trans y3, (hL (by simp) w).trans y4⟩, fun j hj => ?_⟩, ⟨⟨(hf.I (f := 5) (k := 17) rfl w).trans a1, ⟨(hL (by simp) w).trans b1, (hL (by simp) w).trans b2', (hL (by simp) w).trans b3, (hL (by simp) w).trans b4, (hL (by simp) w).trans b5, (hL (by simp) w).trans b6, (hL (by simp) w).trans b7⟩, (hL (by simp) w).trans a3, (hL (by simp) w).trans a4⟩, fun j hj => by rw [hI (f := 41) (by simp), hI (f := 42) (by simp)]; exact d j hj, fun i hi => by rw [hI (f := 49) (by simp), hI (f := 50) (by simp), hI (f := 51) (by simp), hI (f := 52) (by simp), hI (f := 511) (by simp)]; exact e i hi⟩, (hf.R (f := 3) (k := 1) rfl 0).trans g1, (hf.I (f := 3) (k := 3) rfl 0).trans g2, (hf.I (f := 5) (k := 1) rfl w).trans g4⟩
    rw [hI (f := 37) (by simp), hI (f := 39) (by simp), hI (f := 40) (by simp)]
    obtain ⟨z1, ⟨z4, z5, z6⟩, z7⟩ := y5 j hj
    exact ⟨z1, ⟨z4, z5, fun i hi => by rw [hI (f := 38) (by simp)]; exact z6 i hi⟩, z7⟩
  exact ⟨r.1.pre hp (by omega), r.2.1.pre hp, r.2.2⟩
theorem PQ.and {I J : List Nm → Mem → Prop} (h : PQ I) (h1 : PQ J) : PQ (fun A M => I A M ∧ J A M) := fun A A' M M' a b c d => ⟨h A A' M M' a.1 b c d, h1 A A' M M' a.2 b c d⟩
/-- what a field laid changes -/
abbrev FFld : Nat := 15048778649098708900024591334476113300977322584816945731700558880122683541322076177782007219047710981075054947716136472064126077643824238840065967471547556631560845937254371164250279660518119161387932318441601269076015902051059415639302737237176005947674459708871461936685990491668258704528004116902095445209142907238410945246315083832742911528263323025464230244084170860858180649908473861473732904002152903343524599316744998729600734613976276435145967466584318957182277976397677992619713326035981114039109912003890858168213747170341286649529692110996777292010614724224477074533593773928802101496875193466880
/-- a field's line, as it is meant -/
def sField (br : Int32) (W : List Cls) (ts : List Tok) (line : Nat) : (Nat × Nat) ⊕ List Cls := match pField ts with
  | .inl e => .inl e
  | .inr ((bits, own, κ, v, has), _) => if rulF br (gc W (W.length - 1)) bits own κ has = 99 then .inr (addF W (W.length - 1) (own, κ, bits, v, has)) else .inl (rulF br (gc W (W.length - 1)) bits own κ has, line)
theorem kC_num {A : List Nm} {κ : Kd} (hk : κ = (0, []) ∨ κ = (1, []) ∨ κ.1 = 2) (ho : kok A κ) (hl : A.length ≤ 200000) : kC A κ = 0 ↔ κ = (0, []) := by
  unfold kC
  rcases hk with q | q | q
  · subst q; simp
  · subst q; simp
  · rw [if_pos q]
    have := List.idxOf_lt_length_of_mem (ho q)
    have h2 : ¬ Int32.ofNat (A.idxOf κ.2 + 2) = 0 := ne_oN (b := 0) (by omega) (by omega) (by omega)
    exact ⟨fun x => absurd x h2, fun x => by rw [x] at q; simp at q⟩
/-- names, types told: rules, then the field is laid -/
theorem c_fieldRules {Inv : List Nm → Mem → Prop} (hI : PW Inv) {B A : List Nm} {W : List Cls} {w c : Nat} {br bits v : Int32} {own : Nm} {κ : Kd} {has : Bool} {line : Nat} {Q X : Mem → Prop} {M : Mem} (hN : NC B A M) (hC : C4 A W w c br M) (hi : Inv A M) (hl : mI M 3 0 2 = Int32.ofNat line) (hc : c + 1 = W.length) (h21 : 21 ≤ c) (ho : own ∈ A) (hk : kok A κ) (hkk : κ = (0, []) ∨ κ = (1, []) ∨ κ.1 = 2)
    (hX : ∀ M', rulF br (gc W c) bits own κ has ≠ 99 → Thr B A (rulF br (gc W c) bits own κ has, line) M' → C4 A W w c br M' → Inv A M' → X M')
    (hQ : ∀ M', rulF br (gc W c) bits own κ has = 99 → C4 A (addF W c (own, κ, bits, v, has)) w c br M' → Fr FFld M M' → (∀ b, b 42 ≤ c → (∀ f, 49 ≤ f → f ≤ 54 ∨ f = 511 → b f ≤ (allF W).length) → Lo w b M M') → mI M' 53 w (allF W).length = 0 → mI M' 54 w (allF W).length = 0 → Q M') :
    ∃ n, w_Reader_field_L101 0 Q X n bits (nc A own) (kC A κ) (b2 has) v (Int32.ofNat (foff W c)) (Int32.ofNat (gc W c).2.2.2.2.1.length) (Int32.ofNat (foff W c)) M := by
  obtain ⟨hcl, hfl, g1, g2, g4⟩ := id hC
  have hAl := hcl.1.1.2.2.2
  have hW := hcl.1.1.2.2.1
  obtain ⟨⟨a1, ⟨b1, b2', b3, b4, b5, b6, b7⟩, a3, a4⟩, d, e⟩ := id hfl
  have d1 := d c (by omega)
  have hn8 := d1.2.1
  have hF := foff_le (W := W) (fun j hj => (d j hj).2) c (by omega)
  have hFc : foff W c + (gc W c).2.2.2.2.1.length = (allF W).length := by
    have := foff_succ (W := W) (n := c) (by omega)
    rw [hc, foff_all] at this; omega
  have hIw : PW (fun A M => C4 A W w c br M ∧ Inv A M) := fun A A' M M' h hp hl hk => ⟨C4.pq A A' M M' h.1 hp hl hk.wq, hI A A' M M' h.2 hp hl hk⟩
  have ref : ∀ rule M1, M1 = M → rulF br (gc W c) bits own κ has = rule → rule ≠ 99 → w_Works_refuse 0 (Int32.ofNat rule) (mI M1 3 0 2) (fun i M' => i = 0 ∧ X M') M1 := fun rule M1 e1 e2 e3 => by
    subst e1
    refine k_refuse hIw hN ⟨hC, hi⟩ hl (fun M' t q => ?_)
    rw [← e2] at t e3
    exact hX M' e3 t q.1 q.2
  -- the field is laid
  have lay : rulF br (gc W c) bits own κ has = 99 → (gc W c).2.2.2.2.1.length < 8 → w_Reader_field_j232 0 Q X bits (nc A own) (kC A κ) (b2 has) v M := fun h99 hlt => by
    unfold w_Reader_field_j232
    have e5 : (sI M 5 w 17 (mI M 5 w 17 + 1)).2 = M.2 := rfl
    have hv : (allF W).length < 240 := by omega
    refine ⟨w, g1, w, g1, w, g1, ?_⟩
    simp only [a1, mI_sI, Nat.reduceEqDiff, false_and, if_false, g2, oN_tnc (k := c) (show c < 2147483648 by omega), oN_tnc (k := (allF W).length) (show (allF W).length < 2147483648 by omega), d1.1.2, mL_sI]
    refine ⟨by rw [a4]; exact (vp_oN (by omega)).mpr (by omega), by rw [a4]; exact (vp_oN (by omega)).mpr (by omega), _, rfl, w, g1, by show vp_in _ (mL M 49 w); rw [b1]; exact (vp_oN (by omega)).mpr hv, w, g1, by show vp_in _ (mL M 50 w); rw [b2']; exact (vp_oN (by omega)).mpr hv, _, rfl, w, g1, by show vp_in _ (mL M 51 w); rw [b3]; exact (vp_oN (by omega)).mpr hv, w, g1, by show vp_in _ (mL M 52 w); rw [b4]; exact (vp_oN (by omega)).mpr hv, _, rfl, w, g1, by show vp_in _ (mL M 511 w); rw [b5]; exact (vp_oN (by omega)).mpr hv, w, g1, by show vp_in _ (mL M 53 w); rw [b6]; exact (vp_oN (by omega)).mpr hv, _, rfl, w, g1, by show vp_in _ (mL M 54 w); rw [b7]; exact (vp_oN (by omega)).mpr hv, ?_⟩
    have hb2 : (b2 has &&& 1) = b2 has := by cases has <;> decide
    have hb3 : (b2 has &&& Int32.ofNat 1) = b2 has := hb2
    refine hQ _ h99 ⟨?_, ?_, g1, ?_, ?_⟩ ?_ (fun b hb1 hb2 => ?_) ?_ ?_
    · exact (hcl.setF (by omega)).of (by simp only [mI_sI, Nat.reduceEqDiff, false_and, and_false, if_false]) (fun f a b k _ => by iterate 9 rw [mI_sI, if_neg (fun q => by omega)]) (fun f _ _ => rfl)
    · refine hfl.setF hc h21 hlt ho hk (by simp only [mI_sI, Nat.reduceEqDiff, false_and, and_false, if_false, true_and, lit32 1, oN_add, and_self, if_true]) (fun k => by simp only [mI_sI, Nat.reduceEqDiff, false_and, if_false]) (fun k => by simp only [mI_sI, Nat.reduceEqDiff, false_and, if_false, true_and, lit32 1, oN_add]) (fun k => by simp only [mI_sI, Nat.reduceEqDiff, false_and, if_false, true_and]) (fun k => by simp only [mI_sI, Nat.reduceEqDiff, false_and, if_false, true_and]) (fun k => by simp only [mI_sI, Nat.reduceEqDiff, false_and, if_false, true_and]) (fun k => by simp only [mI_sI, Nat.reduceEqDiff, false_and, if_false, true_and]) (fun k => by simp only [mI_sI, Nat.reduceEqDiff, false_and, if_false, true_and, hb2, hb3]) (fun f => rfl)
    · simp only [mI_sI, Nat.reduceEqDiff, false_and, if_false]; exact g2
    · simp only [mI_sI, Nat.reduceEqDiff, false_and, and_false, if_false]; exact g4
    · exact Fr.wIa rfl rfl (Fr.wIa rfl rfl (Fr.wIa rfl rfl (Fr.wIa rfl rfl (Fr.wIa rfl rfl (Fr.wIa rfl rfl (Fr.wIa rfl rfl (Fr.wIa rfl rfl (Fr.wI rfl (Fr.rf _ _)))))))))
    · exact ((((((((Lo.rf w b M).w5.w hb1).w (hb2 49 (by omega) (by omega))).w (hb2 50 (by omega) (by omega))).w (hb2 51 (by omega) (by omega))).w (hb2 52 (by omega) (by omega))).w (hb2 511 (by omega) (by omega))).w (hb2 53 (by omega) (by omega))).w (hb2 54 (by omega) (by omega))
    · simp only [mI_sI, Nat.reduceEqDiff, false_and, if_false, and_self, if_true]
    · simp only [mI_sI, and_self, if_true]
  -- rules
  have j182 : (gc W c).2.2.2.2.1.any (fun f => decide (f.1 = own)) = false → (decide (¬ (gc W c).2.2.2.1 &&& 4 = 0) && (brk br 1 && decide (¬ bits &&& 3 = 3))) = false → w_Reader_field_j182 0 Q X bits (nc A own) (kC A κ) (b2 has) v (Int32.ofNat (gc W c).2.2.2.2.1.length) M := fun r3 r5 => by
    unfold w_Reader_field_j182
    have hr : rulF br (gc W c) bits own κ has = if decide ((gc W c).2.2.2.2.1.length = 8) then 12 else if has && (decide (bits &&& 1 = 0) || decide (κ ≠ (0, []))) then 14 else 99 := by
      unfold rulF; rw [r3, r5]; rfl
    by_cases c8 : (gc W c).2.2.2.2.1.length = 8
    · refine itp (by rw [c8]; rfl) (ref 12 M rfl (by rw [hr, decide_eq_true c8]; rfl) (by decide))
    rw [decide_eq_false c8] at hr
    refine itn (ne_oN (b := 8) c8 (by omega) (by omega)) ?_
    have hlt : (gc W c).2.2.2.2.1.length < 8 := by omega
    cases has with
    | false => exact itp rfl (lay (by rw [hr]; rfl) hlt)
    | true =>
      refine itn (by decide) ?_
      by_cases c1 : bits &&& 1 = 0
      · refine itp c1 ?_
        unfold w_Reader_field_j218
        exact ref 14 M rfl (by rw [hr, decide_eq_true c1]; rfl) (by decide)
      · refine itn c1 ?_
        rw [decide_eq_false c1] at hr
        by_cases c2 : κ = (0, [])
        · exact itp ((kC_num hkk hk hAl).mpr c2) (lay (by rw [hr, decide_eq_false (fun x => x c2)]; rfl) hlt)
        · refine itn (fun q => c2 ((kC_num hkk hk hAl).mp q)) ?_
          unfold w_Reader_field_j218
          exact ref 14 M rfl (by rw [hr, decide_eq_true c2]; rfl) (by decide)
  have loop : ∀ d k, (gc W c).2.2.2.2.1.length - k < d → k ≤ (gc W c).2.2.2.2.1.length → ((gc W c).2.2.2.2.1.take k).any (fun f => decide (f.1 = own)) = false → w_Reader_field_L101 0 Q X d bits (nc A own) (kC A κ) (b2 has) v (Int32.ofNat (foff W c)) (Int32.ofNat (gc W c).2.2.2.2.1.length) (Int32.ofNat (foff W c + k)) M := by
    intro d
    induction d with
    | zero => intro k h; omega
    | succ d ih =>
      intro k hd' hk' hno
      unfold w_Reader_field_L101
      rw [oN_add]
      by_cases ek : k = (gc W c).2.2.2.2.1.length
      · refine itp (le_oN (by omega) (by omega)) ?_
        rw [ek, List.take_length] at hno
        unfold w_Reader_isFace
        refine ⟨w, g1, ?_⟩
        rw [g2]
        refine c_isFace hcl (by omega) ?_
        have r5 := fun h => j182 hno h
        unfold isFc
        by_cases cf : (gc W c).2.2.2.1 &&& 4 = 0
        · rw [decide_eq_false (fun x => x cf)]
          exact ⟨Or.inl rfl, itp rfl (r5 (by rw [decide_eq_false (fun x => x cf)]; rfl))⟩
        · rw [decide_eq_true cf]
          refine ⟨Or.inr rfl, itn (by decide) ?_⟩
          by_cases c3 : bits &&& 3 = 3
          · exact itp c3 (r5 (by rw [decide_eq_false (p := ¬ bits &&& 3 = 3) (fun x => x c3)]; simp))
          · refine itn c3 ⟨w, g1, c_asks (rule := 5) (bit := 1) (by simp) ?_⟩
            rw [g4]
            cases cb : brk br 1 with
            | false => exact itp rfl (r5 (by rw [cb]; simp))
            | true =>
              refine itn (by decide) (ref 5 M rfl ?_ (by decide))
              unfold rulF
              rw [hno, decide_eq_true cf, cb, decide_eq_true c3]; rfl
      · refine itn (nle_oN (by omega) (by omega)) ⟨w, g1, ?_⟩
        obtain ⟨hlt, hg⟩ := gF1_at (W := W) (c := c) (k := k) (by omega) (by omega)
        obtain ⟨⟨p1, p2⟩, -⟩ := e _ hlt
        rw [hg] at p1 p2
        rw [oN_tnc (by omega), b1, p1]
        refine ⟨(vp_oN (by omega)).mpr (by omega), ?_⟩
        have htk : (gc W c).2.2.2.2.1.take (k + 1) = (gc W c).2.2.2.2.1.take k ++ [gfl (gc W c) k] := by
          rw [List.take_add_one, List.getElem?_eq_getElem (show k < (gc W c).2.2.2.2.1.length by omega)]
          show _ ++ [_] = _ ++ [(gc W c).2.2.2.2.1.getD k _]
          rw [List.getD_eq_getElem?_getD, List.getElem?_eq_getElem (show k < (gc W c).2.2.2.2.1.length by omega)]; rfl
        by_cases ce : (gfl (gc W c) k).1 = own
        · refine itp (by rw [ce]) (ref 3 M rfl ?_ (by decide))
          have : (gc W c).2.2.2.2.1.any (fun f => decide (f.1 = own)) = true := by
            rw [List.any_eq_true]
            refine ⟨gfl (gc W c) k, ?_, decide_eq_true ce⟩
            show (gc W c).2.2.2.2.1.getD k _ ∈ _
            rw [List.getD_eq_getElem?_getD, List.getElem?_eq_getElem (show k < (gc W c).2.2.2.2.1.length by omega)]
            exact List.getElem_mem _
          unfold rulF; rw [this]; rfl
        · refine itn (fun q => ce ((nc_inj (by omega) p2 ho).mp q)) ?_
          rw [lit32 1, oN_add]
          refine ih (k + 1) (by omega) (by omega) ?_
          rw [htk, List.any_append, hno, Bool.false_or]
          show (decide ((gfl (gc W c) k).1 = own) || false) = false
          rw [decide_eq_false ce]; rfl
  exact ⟨_, loop ((gc W c).2.2.2.2.1.length + 1) 0 (by omega) (by omega) (by simp)⟩
