/-! THE MACHINE: frames begin; starts go on -/
section
variable {br : Int32} {W : List Cls} {s s' : Ms} {t k : Nat} {o : Option Kd} {U : List Un} {L : Nat → Int32}
theorem lsS_fc {P : Nat → Prop} {K : Nat → List Nat → List Nat} (hK : ∀ d v, P d → (∀ e ∈ v, P e) → ∀ e ∈ K d v, P e) : ∀ fs v, (∀ f ∈ fs, ∀ e, fnd W f = some e → P e) → (∀ e ∈ v, P e) → ∀ e ∈ lsS K W fs v, P e
  | [], v, _, hv => hv
  | f :: fs, v, hf, hv => by
    unfold lsS
    split
    · exact lsS_fc hK fs v (fun g hg => hf g (List.mem_cons_of_mem _ hg)) hv
    · rename_i d ed
      have pd := hf f List.mem_cons_self d ed
      split
      · exact lsS_fc hK fs v (fun g hg => hf g (List.mem_cons_of_mem _ hg)) hv
      · refine lsS_fc hK fs _ (fun g hg => hf g (List.mem_cons_of_mem _ hg)) (hK d _ pd (fun e he => ?_))
        rcases List.mem_append.mp he with q | q
        · exact hv e q
        · rw [List.mem_singleton.mp q]; exact pd
/-- faces of linked classes are faces, and linked -/
def fcL (W : List Cls) (L : Nat → Int32) (d : Nat) : Prop := d < W.length ∧ L d = 1 ∧ isFc W d = true
theorem faces_fc (hB : BI W) (hI : LInv W L) (hk : KJ W L) {c : Nat} (hc : c < W.length) (hl : L c = 1) : ∀ f ∈ (gc W c).2.2.1, ∀ e, fnd W f = some e → fcL W L e := by
  intro f hf e he
  have h21 : 21 ≤ c := Classical.byContradiction (fun z => by
    have : (gc W c).2.2.1 = [] := by rw [hB.2 c (by omega)]; exact (show ∀ c, c < 21 → (gc W21 c).2.2.1 = [] by decide) c (by omega)
    rw [this] at hf; exact absurd hf List.not_mem_nil)
  rcases hI.2 c hc hl with z | ⟨-, -, hz⟩
  · omega
  · obtain ⟨d, hd, ld⟩ := hz f hf
    rw [hd] at he; cases he
    exact ⟨fnd_lt hd, ld, (hk c h21 hl).2 f hf _ hd⟩
theorem lsO_fc (hB : BI W) (hI : LInv W L) (hk : KJ W L) : ∀ n c v, c < W.length → L c = 1 → (∀ e ∈ v, fcL W L e) → ∀ e ∈ lsO W n c v, fcL W L e
  | 0, _, _, _, _, hv => hv
  | n + 1, c, v, hc, hl, hv => lsS_fc (P := fcL W L) (fun d v hd h => lsO_fc hB hI hk n d v hd.1 hd.2.1 h) _ _ (faces_fc hB hI hk hc hl) hv
theorem lsF_fc (hB : BI W) (hI : LInv W L) (hk : KJ W L) : ∀ n u v, (∀ d, u = some d → d < W.length ∧ L d = 1) → (∀ e ∈ v, fcL W L e) → ∀ e ∈ lsF W n u v, fcL W L e
  | 0, _, _, _, hv => hv
  | _ + 1, none, _, _, hv => hv
  | n + 1, some u, v, hu, hv => lsF_fc hB hI hk n _ _ (fun d hd => by
      by_cases u0 : u = 0
      · unfold upW at hd; rw [if_pos u0] at hd; cases hd
      · obtain ⟨e, eu, el, le, -⟩ := hI.upm (hu u rfl).1 (hu u rfl).2 u0
        rw [eu] at hd; cases hd; exact ⟨el, le⟩) (lsO_fc hB hI hk 60 u v (hu u rfl).1 (hu u rfl).2 hv)
theorem pk_mem {x : Mth} {msk : Int32} : ∀ {v : List Nat} {o : Option (Nat × Nat)} {q : Nat × Nat}, v.foldl (pkM W x msk) o = some q → o = some q ∨ q.1 ∈ v
  | [], o, q, h => Or.inl h
  | d :: v, o, q, h => by
    rcases pk_mem (v := v) h with z | z
    · unfold pkM at z
      split at z
      · exact Or.inl z
      · split at z
        · cases z; exact Or.inr List.mem_cons_self
        · split at z
          · cases z; exact Or.inr List.mem_cons_self
          · exact Or.inl z
    · exact Or.inr (List.mem_cons_of_mem _ z)
theorem mthUp_up (hI : LInv W L) {x : Mth} {msk : Int32} : ∀ n c q, c < W.length → L c = 1 → mthUp W x msk n (some c) = some q → L q.1 = 1 ∧ PB W c q.1
  | 0, c, q, _, _, h => by cases h
  | n + 1, c, q, hc, hl, h => by
    unfold mthUp at h
    split at h
    · cases h; exact ⟨hl, Reach.rf _ _⟩
    · by_cases c0 : c = 0
      · have e : upW W c = none := by unfold upW; rw [if_pos c0]
        rw [e] at h
        cases n <;> cases h
      · obtain ⟨e, eu, el, le, -⟩ := hI.upm hc hl c0
        rw [eu] at h
        have := mthUp_up hI n e q el le h
        exact ⟨this.1, PB.cons eu this.2⟩
/-- a method that is found is of a linked class, above by parents or a face -/
theorem mthW_up (hB : BI W) (hI : LInv W L) (hk : KJ W L) {x : Mth} {msk : Int32} {c : Nat} {q : Nat × Nat} (hc : c < W.length) (hl : L c = 1) (h : mthW W x msk c = some q) : L q.1 = 1 ∧ (PB W c q.1 ∨ isFc W q.1 = true) := by
  unfold mthW at h
  split at h
  · rename_i e
    cases h
    have := mthUp_up hI 52 c _ hc hl e
    exact ⟨this.1, Or.inl this.2⟩
  · rcases pk_mem h with z | z
    · cases z
    · have := lsF_fc hB hI hk 52 (some c) [] (fun d z => by cases z; exact ⟨hc, hl⟩) (fun e he => absurd he List.not_mem_nil) _ z
      exact ⟨this.2.1, Or.inr this.2.2⟩
theorem fMth1_up (hB : BI W) (hI : LInv W L) (hk : KJ W L) {x : Mth} {c : Nat} {q : Nat × Nat} (hc : c < W.length) (hl : L c = 1) (h : fMth1 W x c = some q) : L q.1 = 1 ∧ (PB W c q.1 ∨ isFc W q.1 = true) := by
  unfold fMth1 at h
  split at h
  · cases e : ownI x 0 (gc W c).2.2.2.2.2 with
    | none => rw [e] at h; cases h
    | some j => rw [e] at h; cases h; exact ⟨hl, Or.inl (Reach.rf _ _)⟩
  · exact mthW_up hB hI hk hc hl h
/-- classes from the beginning have their makers alone -/
theorem BI.mk (hB : BI W) {c j : Nat} (hc : c < 21) (hj : j < (gc W c).2.2.2.2.2.length) : gmt (gc W c) j = (nMake, [], (-4, []), 0, 0, 0, [], []) := by
  rw [hB.2 c hc] at hj ⊢
  have h1 : (gc W21 c).2.2.2.2.2 = [(nMake, [], (-4, []), 0, 0, 0, [], [])] := by
    have e : gc W21 c = (A0.getD (81 + c) [], (if c = 0 then [] else if c = 1 then nThing else if c ≤ 10 then nFault else A0.getD 91 []), [], 0, [], [(nMake, [], (-4, []), 0, 0, 0, [], [])]) := by
      show W21.getD c _ = _
      unfold W21
      rw [List.getD_eq_getElem?_getD, List.getElem?_map, List.getElem?_range hc]; rfl
    rw [e]
  rw [h1] at hj
  show (gc W21 c).2.2.2.2.2.getD j _ = _
  rw [h1]
  have : j = 0 := by simpa using hj
  rw [this]; rfl
/-- a frame begins -/
theorem at_begin (hB : BI W) {c : Nat} {x : Mth} {args : List Vl} (hb : (begL W c x).length ≤ lr x) (h20 : lr x ≤ 20) (hck : (chkM W c x).1 = 0) (hn : co x ≠ []) (hl : args.length = (begL W c x).length) (ha : cvL W s c (co x) (begL W c x) args) : at_ W s c x 0 (args ++ List.replicate (20 - args.length) (0, false)) [] := by
  have h0 : cvL W s c (co x) (padL x (begL W c x)) (args ++ List.replicate (20 - args.length) (0, false)) := fun i hi => by
    rw [padL_len hb] at hi
    rw [padL_at hi]
    by_cases ci : i < args.length
    · have e : lv (args ++ List.replicate (20 - args.length) (0, false)) i = lv args i := by
        show (args ++ _).getD i _ = args.getD i _
        rw [List.getD_eq_getElem?_getD, List.getElem?_append_left ci, List.getD_eq_getElem?_getD]
      rw [e]
      have := ha i (by omega)
      rw [show gk (begL W c x) i = (begL W c x).getD i uns by
        show (begL W c x).getD i _ = _
        rw [List.getD_eq_getElem?_getD, List.getD_eq_getElem?_getD, List.getElem?_eq_getElem (show i < (begL W c x).length by omega)]; rfl] at this
      exact this
    · have e : lv (args ++ List.replicate (20 - args.length) (0, false)) i = (0, false) := by
        show (args ++ _).getD i _ = _
        rw [List.getD_eq_getElem?_getD, List.getElem?_append_right (by omega), List.getElem?_replicate, if_pos (by omega)]; rfl
      have e2 : (begL W c x).getD i uns = uns := by
        rw [List.getD_eq_getElem?_getD, List.getElem?_eq_none (by omega)]; rfl
      rw [e, e2]
      exact ⟨cf.uns, fun z => by cases z⟩
  have hpos : 0 < (co x).length := List.length_pos_iff.mpr hn
  obtain ⟨s2, f1, f2, f3, f4⟩ := chk_at hck hpos
  unfold at_ kAt
  cases ef : frOf x 0 with
  | none => exact ⟨h0, rfl, fun i hi => absurd hi (Nat.not_lt_zero i)⟩
  | some f =>
    show cvL W s c (co x) (padL x f.1) _ ∧ f.2.length = ([] : List Vl).length ∧ cvL W s c (co x) f.2 []
    obtain ⟨hw, hf⟩ := f4 f ef
    have hf := hf rfl
    have hf : fitS W (padL x (begL W c x)) [] f.1 f.2 = 0 := hf
    unfold fitS at hf
    by_cases c1 : fitL W (padL x (begL W c x)) f.1 ≠ 0
    · rw [if_pos c1] at hf; exact absurd hf c1
    rw [if_neg c1] at hf
    by_cases c2 : ([] : List Kd).length ≠ f.2.length
    · rw [if_pos c2] at hf; exact absurd hf (by decide)
    have c1 := Classical.not_not.mp c1
    have c2 := Classical.not_not.mp c2
    exact ⟨h0.fl hB (padL_len hb) c1 (wrongF_in hw).1, c2.symm, fun i hi => absurd hi (by rw [← c2]; exact Nat.not_lt_zero i)⟩
theorem enterS_ok (hW : WO W) {V : List Un} {c j : Nat} {args : List Vl} (h : MO W s t o (gU s t)) (hon : lSt (zN s t) = 1) (hc : 21 ≤ c ∧ c < W.length ∧ (zL s).1 c = 1) (hj : j < (gc W c).2.2.2.2.2.length) (hn : co (gmt (gc W c) j) ≠ []) (hl : args.length = (begL W c (gmt (gc W c) j)).length) (ha : cvL W s c (co (gmt (gc W c) j)) (begL W c (gmt (gc W c) j)) args) (hV : UO W s t (some (gmt (gc W c) j).2.2.1) V) (hst : sts V = sts (gU s t)) (hfr : frs V = frs (gU s t)) (hF : (zF s).length + (gU s t).length + 1 < 1000000) : MK W (enterS W t s V c j args) t := by
  unfold enterS
  by_cases c40 : frs (gU s t) = 40
  · rw [if_pos c40]; exact failS_ok hW h hon (by omega) (by omega) hF
  rw [if_neg c40]
  have hck := (h.1.1.1.2.2 c hc.1 hc.2.2).1 _ (getD_mem (d := ([], [], (0, []), 0, 0, 0, [], [])) hj)
  have hb := hW.beg hc.1 hc.2.1 hj hn
  have hat := at_begin (s := s) (args := args) hW.1 hb.1 hb.2.1 hck hn hl ha
  have hM : MO W s t none (.inl (c, j, 0, args ++ List.replicate (20 - args.length) (0, false), []) :: V) := by
    refine ⟨h.1, h.2.1, h.2.2.1, ⟨⟨⟨hc, hj, List.length_pos_iff.mpr hn, ?_, fun v hv hb' => ?_⟩, hat, hV⟩, ?_, ?_⟩, fun k hk => ?_⟩
    · show (args ++ List.replicate (20 - args.length) (0, false)).length = 20
      rw [List.length_append, List.length_replicate]; omega
    · rcases List.mem_append.mp hv with z | z
      · obtain ⟨i, hi, e⟩ := List.mem_iff_getElem.mp z
        have := (ha i (by omega)).2
        rw [show lv args i = v by show args.getD i _ = v; rw [List.getD_eq_getElem?_getD, List.getElem?_eq_getElem hi, e]; rfl] at this
        exact this hb'
      · rw [List.eq_of_mem_replicate z] at hb'; cases hb'
    · show (sts V).Nodup
      rw [hst]; exact h.2.2.2.1.2.1
    · show frs V + 1 ≤ 40
      have := h.2.2.2.1.2.2
      omega
    · have := h.2.2.2.2 k hk
      rw [← hst] at this; exact this
  have eg : gU (evS (sU s t (.inl (c, j, 0, args ++ List.replicate (20 - args.length) (0, false), []) :: V)) t 1 c (some j)) t = .inl (c, j, 0, args ++ List.replicate (20 - args.length) (0, false), []) :: V := by
    show lU (zN (evS _ _ _ _ _) t) = _
    rw [evS_r.2.2.2.2.2.2.2.1]; exact gU_sU
  refine ⟨by rw [eg]; exact hM.put.ev, fun z => absurd ?_ z⟩
  show lSt (zN (evS _ _ _ _ _) t) = 1
  rw [evS_r.2.2.2.2.2.2.2.1]
  show lSt (up1 (zN s) t _ t) = 1
  rw [up1_s]; exact hon
/-- code of what is not abstract -/
theorem WO.co (hW : WO W) {c j : Nat} (hc : 21 ≤ c) (hl : c < W.length) (hj : j < (gc W c).2.2.2.2.2.length) (h8 : (gmt (gc W c) j).2.2.2.1 &&& 8 = 0) : (gmt (gc W c) j).2.2.2.2.2.2.1 ≠ [] := fun z => ((hW.m hc hl hj).2.2.2.2.mp z) h8
theorem firstS_ok (hW : WO W) (h : MO W s t none (gU s t)) (hon : lSt (zN s t) = 1) (h0 : gU s t = []) (hF : (zF s).length + 1 < 1000000) : MK W (firstS br W t s) t := by
  obtain ⟨hrs, hca⟩ := (h.2.1.2 t h.2.1.1).1 hon
  have hok := fMth_ok (br := br) (W := W) (a := zL s) (kn := (lCa (zN s t)).1) (x := (lCa (zN s t)).2.1) (o := 52) (acc := fun _ => false) h.1.1.1.2.1 hW.2.2.2
  have hm : LkM W (zL s) (fMth br W (zL s) (lCa (zN s t)).1 (lCa (zN s t)).2.1 52 (fun _ => false)).2 := by rw [hok.2]; exact lkd_M hW.2.2.2 h.1.1.1
  have hF' : (zF s).length + (gU s t).length + 1 < 1000000 := by rw [h0]; exact hF
  unfold firstS
  cases ef : fMth br W (zL s) (lCa (zN s t)).1 (lCa (zN s t)).2.1 52 (fun _ => false) with
  | mk y L =>
    rw [ef] at hok hm
    cases y with
    | inl e => exact failC_ok hW (h.lL hm) hon hok.1 hF'
    | inr q =>
      dsimp only
      obtain ⟨c, hlk, -, hf1, hst, hab⟩ := fMth_in ef
      obtain ⟨hfc, -, hlc⟩ := lkd_in hlk
      have hc := fnd_lt hfc
      have hq := fMth1_ok hc hf1
      have hqu := fMth1_up hW.1 hm.1.1 hm.1.2.2 hc hlc hf1
      have hq21 : 21 ≤ q.1 := Classical.byContradiction (fun z => by
        have := hW.1.mk (c := q.1) (j := q.2) (by omega) hq.2.1
        have h1 := hq.2.2.1.1
        rw [this] at h1
        exact hca.2.2.2.1 h1.symm)
      have hM := h.lL hm
      obtain ⟨m0, m2, m1, m3⟩ := mustS_ok (br := br) (k := q.1) hW hM hon hq.1
      generalize em : mustS br W t (yL s L) q.1 = mr at m0 m1 m2 m3
      obtain ⟨r0, e, s1⟩ := mr
      dsimp only at m0 m1 m2 m3
      match r0, m0, m1, m2, m3 with
      | 0, m0, _, _, _ =>
        obtain ⟨es, -, -⟩ := m0 rfl
        rw [es]
        have hs1 : ¬ (gmt (gc W q.1) q.2).2.2.2.1 &&& 1 = 0 := of_decide_eq_true (hst.trans (by decide))
        have hbeg : begL W q.1 (gmt (gc W q.1) q.2) = (gmt (gc W q.1) q.2).2.1 := by unfold begL; rw [if_neg hs1]; rfl
        have h8 : (gmt (gc W q.1) q.2).2.2.2.1 &&& 8 = 0 := Classical.byContradiction (fun z => hab ⟨Or.inl rfl, z⟩)
        have hlen : (gmt (gc W q.1) q.2).2.1 = (lCa (zN s t)).2.1.2.1 := hq.2.2.1.2.1
        have hg6 := hca.2.2.1
        have hl6 := hca.1.1
        refine enterS_ok hW hM hon ⟨hq21, hq.1, hqu.1⟩ hq.2.1 (hW.co hq21 hq.1 hq.2.1 h8) ?_ ?_ trivial ?_ ?_ hF'
        · rw [hbeg, hlen, List.length_map, List.length_take]; omega
        · rw [hbeg, hlen]
          intro i hi
          have e1 : gk (lCa (zN s t)).2.1.2.1 i = (0, []) := hca.1.2 _ (gk_mem hi)
          rw [e1]
          have : (lv (((lCa (zN s t)).2.2.take (lCa (zN s t)).2.1.2.1.length).map (fun v => (v, false))) i).2 = false := by
            show ((((lCa (zN s t)).2.2.take (lCa (zN s t)).2.1.2.1.length).map (fun v => (v, false))).getD i (0, false)).2 = false
            rw [List.getD_eq_getElem?_getD, List.getElem?_map]
            cases ((lCa (zN s t)).2.2.take (lCa (zN s t)).2.1.2.1.length)[i]? <;> rfl
          exact ⟨cf.num this, fun z => by rw [this] at z; cases z⟩
        · show [] = sts (gU s t); rw [h0]; rfl
        · show 0 = frs (gU s t); rw [h0]; rfl
      | 1, _, m1, _, _ => exact m1 (Or.inl rfl)
      | 2, _, _, m2, _ =>
        obtain ⟨he, hM2, hN, hF2⟩ := m2 rfl
        have eg : gU s1 t = gU (yL s L) t := by show lU (zN s1 t) = _; rw [hN]
        refine failC_ok hW (o := none) (by rw [eg]; exact hM2) (by rw [hN]; exact hon) he ?_
        rw [hF2, eg]; exact hF'
      | 3, _, m1, _, _ => exact m1 (Or.inr rfl)
      | n + 4, _, _, _, m3 => exact absurd m3 (by omega)
theorem ownN_in {nm : Nm} : ∀ {l : List Mth} {k j : Nat}, ownN nm k l = some j → k ≤ j ∧ j < k + l.length ∧ (l.getD (j - k) ([], [], (0, []), 0, 0, 0, [], [])).1 = nm
  | [], _, _, h => by cases h
  | y :: l, k, j, h => by
    unfold ownN at h
    split at h
    · rename_i q
      cases h
      rw [Nat.sub_self]
      exact ⟨Nat.le_refl _, by simp, q⟩
    · have := ownN_in h
      refine ⟨by omega, by simp only [List.length_cons]; omega, ?_⟩
      rw [show j - k = (j - (k + 1)) + 1 by omega]
      exact this.2.2
theorem startG_ok (hW : WO W) {own : Bool} (h : MO W s t none (.inr (k, own) :: U)) (hon : lSt (zN s t) = 1) (hF : (zF s).length + U.length + 2 < 1000000) : MK W (startG W t s k U) t := by
  obtain ⟨⟨hown, hk, hU⟩, hnd, hfr⟩ := h.2.2.2.1
  unfold startG
  cases eo : ownN nStart 0 (gc W k).2.2.2.2.2 with
  | none =>
    have hM := h.popS (v := 2) (Or.inl rfl)
    have eg : gU (evS (sU (yC s (up1 (zC s) k 2)) t U) t 5 k none) t = U := by
      show lU (zN (evS _ _ _ _ _) t) = _
      rw [evS_r.2.2.2.2.2.2.2.1]; exact gU_sU
    refine ⟨by rw [eg]; exact hM.put.ev, fun z => absurd ?_ z⟩
    show lSt (zN (evS _ _ _ _ _) t) = 1
    rw [evS_r.2.2.2.2.2.2.2.1]
    show lSt (up1 (zN s) t _ t) = 1
    rw [up1_s]; exact hon
  | some m =>
    obtain ⟨-, hm, hn⟩ := ownN_in eo
    rw [Nat.zero_add] at hm
    have hw := (hW.2.2.1.at hk.1.2).2.2 _ (getD_mem (d := ([], [], (0, []), 0, 0, 0, [], [])) hm)
    have hst := hw.2 hn
    have hfl : (gmt (gc W k) m).2.2.2.1 = 1 := hst.1
    have hbeg : begL W k (gmt (gc W k) m) = [] := by
      unfold begL
      rw [hfl, if_neg (by decide)]
      exact hst.2.1
    have hs : sle s (sU s t (.inr (k, true) :: U)) := sle_of rfl rfl
    have hM : MO W (sU s t (.inr (k, true) :: U)) t (some (gmt (gc W k) m).2.2.1) (gU (sU s t (.inr (k, true) :: U)) t) := by
      rw [gU_sU]
      refine MO.put (U := .inr (k, true) :: U) ⟨h.1, h.2.1, h.2.2.1, ⟨⟨rfl, hk, hU⟩, hnd, hfr⟩, h.2.2.2.2⟩
    refine enterS_ok hW hM (by show lSt (up1 (zN s) t _ t) = 1; rw [up1_s]; exact hon) ⟨hk.1.1, hk.1.2, hk.2.1⟩ hm (hW.co hk.1.1 hk.1.2 hm (by rw [hfl]; decide)) ?_ ?_ ?_ ?_ ?_ ?_
    · rw [hbeg]; rfl
    · rw [hbeg]; exact fun i hi => absurd hi (Nat.not_lt_zero i)
    · have := hM.2.2.2.1.1
      rw [gU_sU] at this; exact this
    · rw [gU_sU]
    · rw [gU_sU]
    · rw [gU_sU]
      show (zF s).length + (U.length + 1) + 1 < _
      omega
theorem startS_ok (hW : WO W) {own : Bool} (h : MO W s t none (gU s t)) (hg : gU s t = .inr (k, own) :: U) (hon : lSt (zN s t) = 1) (hF : (zF s).length + U.length + 2 < 1000000) : MK W (startS br W t s k own U) t := by
  have h' := h
  rw [hg] at h'
  obtain ⟨⟨hown, hk, hU⟩, hnd, hfr⟩ := h'.2.2.2.1
  have hF' : (zF s).length + (gU s t).length + 1 < 1000000 := by
    rw [hg]; show (zF s).length + (U.length + 1) + 1 < _; omega
  unfold startS
  by_cases c1 : own = false ∧ isFc W k = false
  · rw [if_pos c1]
    obtain ⟨p, hp, hpl, -, -⟩ := h.1.1.1.1.upm hk.1.2 hk.2.1 (show k ≠ 0 by have := hk.1.1; omega)
    rw [hp]
    dsimp only
    obtain ⟨m0, m2, m1, m3⟩ := mustS_ok (br := br) (k := p) hW h hon hpl
    generalize em : mustS br W t s p = mr at m0 m1 m2 m3
    obtain ⟨r0, e, s1⟩ := mr
    dsimp only at m0 m1 m2 m3
    match r0, m0, m1, m2, m3 with
    | 0, m0, _, _, _ =>
      obtain ⟨es, -, -⟩ := m0 rfl
      rw [es]
      exact startG_ok hW h' hon hF
    | 1, _, m1, _, _ => exact m1 (Or.inl rfl)
    | 2, _, _, m2, _ =>
      obtain ⟨he, hM2, hN, hF2⟩ := m2 rfl
      have eg : gU s1 t = gU s t := by show lU (zN s1 t) = _; rw [hN]
      refine failC_ok hW (o := none) (by rw [eg]; exact hM2) (by rw [hN]; exact hon) he ?_
      rw [hF2, eg]; exact hF'
    | 3, _, m1, _, _ => exact m1 (Or.inr rfl)
    | n + 4, _, _, _, m3 => exact absurd m3 (by omega)
  · rw [if_neg c1]
    exact startG_ok hW h' hon hF
end
