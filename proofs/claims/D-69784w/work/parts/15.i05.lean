/-! THE OPERATIONS reach, reached, in the twin -/
def tcB (V : RV) (M : Mem) : Prop := mI M 11 0 109 = Int32.ofNat V.length ∧ mL M 119 0 = 612 ∧ ∀ i, i < V.length → mI M 119 0 i = Int32.ofNat (12 * (gV V i).1 + (gV V i).2)
def tcV (W : List Cls) (V : RV) (M : Mem) : Prop := okV W V ∧ tcB V M ∧ mL M 520 0 = 612 ∧ ∀ m : Nat × Nat, m.1 < W.length → m.2 < (gc W m.1).2.2.2.2.2.length → mI M 520 0 (12 * m.1 + m.2) = b2 (decide (m ∈ V))
def Rt (G : List Sl) (US : UST) (A : List Nm) (S : List Sg) (W : List Cls) (w : Nat) (br : Int32) (nq nl nf nk : Nat) (L0 : LkS) (z : RV × LkS) (M0 M : Mem) : Prop := LKt G US A S W w br nq nl nf nk z.2 M ∧ (LkM W L0 z.2 ∧ LG z.2) ∧ Fr F_Model_reach M0 M ∧ tcV W z.1 M
section
variable {G : List Sl} {US : UST} {A : List Nm} {S : List Sg} {W : List Cls} {w k c j q n ab : Nat} {br x a b cc : Int32} {nq nl nf nk B F : Nat} {M M' M0 : Mem} {s : Ms} {Q : Mem → Prop} {i : Ins} {on : Nat → Bool} {L0 : LkS} {V : RV} {m : Nat × Nat} {z : RV × LkS} {C : Nat → Int32} {xm : Mth}
theorem tcV.fr {S : Nat} (h : tcV W V M) (hf : Fr S M M') (hS : okF S [cd 11 109, 119, 520, 5119, 5520] = true := by rfl) : tcV W V M' := by
  have o := fun {b : Nat} (hb : b ∈ [cd 11 109, 119, 520, 5119, 5520]) => okF_in hS hb
  obtain ⟨a, ⟨b1, b2', b4⟩, c, d⟩ := h
  exact ⟨a, ⟨(hf.I (f := 11) (k := 109) (o (by decide)) 0).trans b1, (hf.L (f := 119) (o (by decide)) 0).trans b2', fun i hi => (hf.Ia (f := 119) rfl (o (by decide)) 0 i).trans (b4 i hi)⟩, (hf.L (f := 520) (o (by decide)) 0).trans c, fun m h1 h2 => (hf.Ia (f := 520) rfl (o (by decide)) 0 _).trans (d m h1 h2)⟩
abbrev SRt : Nat := (1283085662554789283126948758298394390258937904313527167721181606616619720737536365412077382746915945257195334782307380945331294385721376881798201296515417133549192443476666896976722129739258635808395214365521410532552595822711772525252834227438279528930667259098476609582301377505642182275605554659224128960557924121162877125611698167074762645047829251109018755904897630805538267879592771572005660583591967641461816892454944911296111861839075247024874306926504726282343014935755586442640417338499930402269962708074853989263312740397333504513173500940136017323631018143908571771128483946624094558053257793879375277255102898870501451638390288453549170549835183129600405313638598213296373261176465522491798821534790440736365092430158593982565550048109538146446786503364180624954883168728536023576927401751649260108945421436493276967566762023986939092423516827688494424825793736958361215782943295026928868635882904696989583214575107601658985980821577195432354765208268235739453567017298493773631717376)
theorem okV.len12 (h : okV W V) (h12 : W12 W) : V.length ≤ 612 := by
  have h1 : (V.map (fun m => 12 * m.1 + m.2)).Nodup := by
    unfold List.Nodup
    rw [List.pairwise_map]
    refine List.Pairwise.imp_of_mem (fun {a b} ha hb hne e => hne ?_) h.1
    have ka := (h.2 a ha).2
    have kb := (h.2 b hb).2
    have := h12.2 a.1
    have := h12.2 b.1
    obtain ⟨a1, a2⟩ := a
    obtain ⟨b1, b2⟩ := b
    dsimp only at *
    have e1 : a1 = b1 := by omega
    have e2 : a2 = b2 := by omega
    rw [e1, e2]
  have h2 := (sum_sub (fun _ => 0) h1 (T := List.range 612) (fun y hy => by
    obtain ⟨m, hm, e⟩ := List.mem_map.mp hy
    have := (h.2 m hm)
    have := h12.2 m.1
    have := h12.1
    rw [← e]
    exact List.mem_range.mpr (by omega))).2
  rw [List.length_map, List.length_range] at h2
  exact h2
theorem ct_addReached (h12 : W12 W) (h : tcV W V M) (hm : m.1 < W.length ∧ m.2 < (gc W m.1).2.2.2.2.2.length) (hQ : ∀ M', Fr SRt M M' → tcV W (addV V m) M' → Q M') : w_Model_addReached 0 (Int32.ofNat (12 * m.1 + m.2)) Q M := by
  obtain ⟨hok, ⟨b1, l119, b4⟩, l520, d⟩ := id h
  have hm12 : m.2 < 12 := Nat.lt_of_lt_of_le hm.2 (h12.2 m.1)
  have h51 := h12.1
  have hl := hok.len12 h12
  have e12 : Int32.ofNat (12 * m.1 + m.2) / (12 : Int32) = Int32.ofNat m.1 := by rw [show (12 : Int32) = Int32.ofNat 12 from rfl, oN_div (by omega) (by omega)]; congr 1; omega
  unfold w_Model_addReached
  rw [e12]
  refine ⟨by decide, ?_⟩
  unfold addV at hQ
  by_cases c21 : m.1 < 21
  · rw [if_pos c21] at hQ
    exact itp (lt_oN (b := 21) c21 (by omega)) (hQ M (Fr.rf _ _) h)
  rw [if_neg c21] at hQ
  refine itn (nlt_oN (b := 21) (by omega) (by omega)) ?_
  rw [oN_tnc (k := 12 * m.1 + m.2) (by omega), d m hm.1 hm.2, l520]
  refine ⟨(vp_oN (by omega)).mpr (by omega), ?_⟩
  by_cases hin : m ∈ V
  · rw [decide_eq_true hin]
    refine itn (by decide) (hQ M (Fr.rf _ _) ?_)
    rw [show ins V m = V from if_pos hin]; exact h
  · rw [decide_eq_false hin]
    have e9 : ∀ v, mI (sI M 520 0 (12 * m.1 + m.2) v) 11 0 109 = Int32.ofNat V.length := fun v => b1
    have hlt2 : V.length < 612 := by
      have := (okV_ins hok hm).len12 h12
      rw [show ins V m = V ++ [m] from if_neg hin, List.length_append, List.length_singleton] at this
      omega
    refine itp rfl ⟨(vp_oN (by omega)).mpr (by omega), by rw [e9]; show vp_in _ (mL M 119 0); rw [l119]; exact (vp_oN (by omega)).mpr hlt2, _, rfl, ?_⟩
    rw [e9, oN_tnc (k := V.length) (by omega)]
    have e9' : ∀ v u, mI (sI (sI M 520 0 (12 * m.1 + m.2) v) 119 0 V.length u) 11 0 109 = Int32.ofNat V.length := fun v u => b1
    rw [e9', lit32 1, oN_add]
    refine hQ _ (Fr.wI rfl (Fr.wIa rfl rfl (Fr.wIa rfl rfl (Fr.rf _ _)))) ?_
    rw [show ins V m = V ++ [m] from if_neg hin]
    refine ⟨by rw [← show ins V m = V ++ [m] from if_neg hin]; exact okV_ins hok hm, ⟨?_, l119, fun i hi => ?_⟩, l520, fun y h1 h2 => ?_⟩
    · rw [mI_sI, if_pos ⟨rfl, rfl, rfl⟩, List.length_append, List.length_singleton]
    · rw [List.length_append, List.length_singleton] at hi
      by_cases ci : i = V.length
      · subst ci
        rw [gV_end]
        simp only [mI_sI, Nat.reduceEqDiff, and_false, false_and, if_false, and_self, true_and, and_true, if_true]
      · rw [gV_app (by omega)]
        simp only [mI_sI, Nat.reduceEqDiff, and_false, false_and, if_false, and_self, true_and, and_true, if_true, ci]
        exact b4 i (by omega)
    · by_cases ey : y = m
      · subst ey
        simp only [mI_sI, Nat.reduceEqDiff, and_false, false_and, if_false, and_self, true_and, and_true, if_true]
        rw [decide_eq_true (List.mem_append_right _ (List.mem_singleton.mpr rfl))]; rfl
      · have ne : 12 * y.1 + y.2 ≠ 12 * m.1 + m.2 := fun e => by
          have := h12.2 y.1
          refine ey ?_
          obtain ⟨y1, y2⟩ := y
          obtain ⟨m1, m2⟩ := m
          dsimp only at *
          have e1 : y1 = m1 := by omega
          have e2 : y2 = m2 := by omega
          rw [e1, e2]
        simp only [mI_sI, Nat.reduceEqDiff, and_false, false_and, if_false, and_self, true_and, and_true, if_true, ne]
        rw [d y h1 h2]
        congr 1
        by_cases hy : y ∈ V
        · rw [decide_eq_true hy, decide_eq_true (List.mem_append_left _ hy)]
        · rw [decide_eq_false hy, decide_eq_false (fun q => (List.mem_append.mp q).elim hy (fun q => ey (List.mem_singleton.mp q)))]
theorem Rt.cm (h : Rt G US A S W w br nq nl nf nk L0 z M0 M) {V' : RV} (hf : Fr SRt M M') (hV : tcV W V' M') : Rt G US A S W w br nq nl nf nk L0 (V', z.2) M0 M' := ⟨h.1.mfr hf, h.2.1, h.2.2.1.trans (hf.sub rfl), hV⟩
/-- the starts that would come -/
theorem ct_addStarts (hW : WO W) (h12 : W12 W) (C : Nat → Int32) (hC : ∀ k, k < W.length → mI M0 137 w k = C k) (h21 : ∀ k, k < 21 → C k = 2) : ∀ n o z M, Rt G US A S W w br nq nl nf nk L0 z M0 M → (∀ d, o = some d → d < W.length ∧ (d = 0 ∨ (z.2.1 d = 1 ∧ rk W d < n))) → 0 < n → (∀ M', Rt G US A S W w br nq nl nf nk L0 (stsV W C n o z.1, z.2) M0 M' → Q M') → w_Model_addStarts_L2 0 Q n (oC o) M := by
  intro n
  induction n with
  | zero => intro o z M _ _ h0; omega
  | succ n ih =>
    intro o z M h ho _ hQ
    have h51 := hW.2.2.2
    unfold w_Model_addStarts_L2
    cases o with
    | none => exact itp (show (-2 : Int32) < 0 by decide) (hQ M h)
    | some d =>
      obtain ⟨hd, hl⟩ := ho d rfl
      have e45 := h.1.1.r45
      have e137 : mI M 137 w d = C d := (h.2.2.1.Ia (f := 137) rfl rfl w d).trans (hC d hd)
      have l137 : mL M 137 w = 51 := h.1.1.1.1.1.1.2.2.2.2.2.1
      unfold stsV at hQ
      refine itn (show ¬ Int32.ofNat d < 0 by rw [Int32.not_lt]; exact oN_zero_le (by omega)) ⟨w, e45, ?_⟩
      show vp_in (Int32.ofNat d) (mL M 137 w) ∧ (if mI M 137 w (Int32.ofNat d).toNatClampNeg = 2 then Q M else _)
      rw [oN_tnc (k := d) (by omega), e137, l137]
      refine ⟨(vp_oN (by omega)).mpr (by omega), ?_⟩
      by_cases c2 : C d = 2
      · rw [if_pos c2] at hQ
        exact itp c2 (hQ M h)
      rw [if_neg c2] at hQ
      have c21 : ¬ d < 21 := fun z => c2 (h21 d z)
      refine itn c2 ?_
      have hl1 : z.2.1 d = 1 ∧ rk W d < n + 1 := by
        rcases hl with z' | z'
        · omega
        · exact z'
      have nx : ∀ z' M', z'.2 = z.2 → Rt G US A S W w br nq nl nf nk L0 z' M0 M' → (∀ M', Rt G US A S W w br nq nl nf nk L0 (stsV W C n (if isFc W d = true then none else upW W d) z'.1, z'.2) M0 M' → Q M') → w_Model_addStarts_j42 0 Q (w_Model_addStarts_L2 0 Q n) (Int32.ofNat d) M' := by
        intro z' M' ez h' hQ'
        have hrk : 0 < rk W d := rk_pos hd
        have hn0 : 0 < n := by omega
        have e132 : mI M' 132 w d = (gc W d).2.2.2.1 := (h'.1.1.cl.2.2 d hd).2.2
        have l132 : mL M' 132 w = 51 := h'.1.1.cl.2.1.2.2.2
        unfold w_Model_addStarts_j42 w_Model_addStarts_j66
        refine ⟨w, h'.1.1.r45, by rw [l132]; exact (vp_oN (by omega)).mpr (by omega), ?_⟩
        rw [oN_tnc (k := d) (by omega), e132]
        have efc : isFc W d = decide (¬ (gc W d).2.2.2.1 &&& 4 = 0) := rfl
        by_cases c4 : (gc W d).2.2.2.1 &&& 4 = 0
        · rw [efc, decide_eq_false (fun e => e c4), if_neg (by decide)] at hQ'
          refine itp c4 (ct_parentOf h'.1.1.r45 h'.1.1.cl hd ?_)
          refine ih (upW W d) z' M' h' (fun e he => ?_) hn0 hQ'
          obtain ⟨p, hp, hpl, hp2⟩ := h.2.1.1.1.1.up hd hl1.1 (by omega)
          rw [hp] at he
          cases he
          refine ⟨hpl, ?_⟩
          rw [ez]
          rcases hp2 with q | q
          · exact Or.inl q
          · exact Or.inr ⟨q.1, by omega⟩
        · rw [efc, decide_eq_true c4, if_pos rfl] at hQ'
          exact itn c4 (ih none z' M' h' (fun _ q => by cases q) hn0 hQ')
      have k7 := h.1.1.1.2.2.1 (7, nStart) (by simp [kF])
      simp only [] at k7
      obtain ⟨k38, k38'⟩ := h.1.1.1.2.1.2.2.2
      have hxs : sg A xSt.2.1 xSt.2.2.1 = (([], 0) : Sg) := rfl
      show w_Model_methodIn 0 (Int32.ofNat d) (mI M 11 0 7) (mI M 11 0 38) _ M
      rw [k7.1, k38, ← hxs]
      refine ct_methodIn (x := xSt) h.1.1 hd k7.2 (by rw [hxs]; exact k38') ⟨fun κ hκ => absurd hκ (by simp), fun e => absurd e (by decide), Or.inr (Or.inr (Or.inl rfl))⟩ ?_
      rw [← ownN_I (hW.2.2.1.at hd).2.2]
      cases eo : ownN nStart 0 (gc W d).2.2.2.2.2 with
      | none =>
        rw [eo] at hQ
        exact itp (show (-2 : Int32) < 0 by decide) (nx z M rfl h hQ)
      | some q =>
        rw [eo] at hQ
        dsimp only at hQ
        have hq := ownN_in eo
        have hm : d < W.length ∧ q < (gc W d).2.2.2.2.2.length := ⟨hd, by omega⟩
        have hq12 := h12.2 d
        exact itn (show ¬ Int32.ofNat (12 * d + q) < 0 by rw [Int32.not_lt]; exact oN_zero_le (by omega)) (ct_addReached (m := (d, q)) h12 h.2.2.2 hm (fun M' hf hV => nx (addV z.1 (d, q), z.2) M' rfl (h.cm hf hV) hQ))
end
