/-! collect in the twin: what is reached -/
abbrev tMk (p : MP) (M : Mem) : Prop := mkR 521 120 11 112 0 p M
abbrev SMt : Nat := (10264685300438314265015590066387155122071503234508217341769452852932957765900290923296619061975327562057562678258459047562650355085771015054385610372123337068393539547813335175813777037914069086467161714924171284260420766581694180202022673819506236231445338072787812876658411020045137458204844437273793031684463392969303017004893585336598101160382634008872150047239181046444306143036742172576045284668735741131694535139639559290368894894712601976198994455412037810258744119486044691541123338707999443218159701664598831914106501923178668036105388007521088138589048145151268574169027871572992756464426062351035002218040823190964011613107122307628393364398681465036803242509108785706370986089411724179934390572278323525890920739441268751860524400384876305171574292026913444999639065349828288188615419214013194080871563371491946215740534096191874918346407742792363009696209105716015081420363116443987247558709506608025723697560233181891287524181640728629284395547550792237929123857081954444134867533824)
abbrev TC (G : List Sl) (US : UST) (A : List Nm) (S : List Sg) (W : List Cls) (w : Nat) (br : Int32) (nq nl nf nk B F : Nat) (x : Int32) (s : Ms) (M : Mem) : Prop := TA G US A S W w br nq nl nf nk B F x s M ∧ mL M 121 0 = 4000
theorem unT.at {L : Nat} {M : Mem} {u : Un} {V : List Un} : ∀ {X : List Un}, unT L M (X ++ u :: V) → unT L M (u :: V)
  | [], h => h
  | .inl _ :: X, h => unT.at (X := X) h.2.2
  | .inr _ :: X, h => unT.at (X := X) h.2
theorem mkM_tr {s : Ms} {p : MP} {y : Int32} (hv : vRf s y) : mkM p (tr true y) = mkM p y := by
  obtain ⟨n, e, en, hn⟩ := hv.n
  have hb : n < 2000000 := by omega
  subst e
  rw [tr_n hb]
  by_cases c : 800 < n
  · rw [if_pos ⟨rfl, c⟩]
    have h1 : ¬ inO (Int32.ofNat (n + 200)) := fun z => by
      have z : 1 ≤ (Int32.ofNat (n + 200)).toNatClampNeg ∧ (Int32.ofNat (n + 200)).toNatClampNeg ≤ 800 := z
      rw [oN_tnc (k := n + 200) (by omega)] at z; omega
    have h2 : ¬ inO (Int32.ofNat n) := fun z => by
      have z : 1 ≤ (Int32.ofNat n).toNatClampNeg ∧ (Int32.ofNat n).toNatClampNeg ≤ 800 := z
      rw [oN_tnc (k := n) (by omega)] at z; omega
    unfold mkM
    rw [if_neg (fun z => h1 z.1), if_neg (fun z => h2 z.1)]
  · rw [if_neg (fun z => c z.2)]
section
variable {G : List Sl} {US : UST} {A : List Nm} {S : List Sg} {W : List Cls} {k C B F K ud t c r d : Nat} {br a b x y v2 : Int32} {nq nl nf nk : Nat} {s : Ms} {M M' : Mem} {Q : Int32 → Mem → Prop} {on : Nat → Bool} {p p0 : MP}
theorem TA.mk (h : TA G US A S W k br nq nl nf nk B F x s M) (hf : Fr SMt M M') : TA G US A S W k br nq nl nf nk B F x s M' := h.lk hf (h.1.mfr hf)
theorem TC.mk (h : TC G US A S W k br nq nl nf nk B F x s M) (hf : Fr SMt M M') : TC G US A S W k br nq nl nf nk B F x s M' := ⟨h.1.mk hf, (hf.L rfl 0).trans h.2⟩
theorem ct_mark {Q : Mem → Prop} (h : tMk p M) (hp : okP p) (hQ : ∀ M', tMk (mkM p y) M' → Fr SMt M M' → Q M') : w_Model_mark 0 y Q M := by
  unfold w_Model_mark
  have hno : ¬ inO y → Q M := fun z => by
    have : mkM p y = p := by unfold mkM; rw [if_neg (fun u => z u.1)]
    rw [this] at hQ
    exact hQ M h (Fr.rf _ _)
  by_cases c1 : y ≤ 0
  · exact itp c1 (hno (fun z => by
      have := (inO_iff.1 z).1
      rw [Int32.le_iff_toInt_le] at this c1
      have this : (1 : Int) ≤ y.toInt := this
      have c1 : y.toInt ≤ 0 := c1
      omega))
  refine itn c1 ?_
  by_cases c2 : (800 : Int32) < y
  · exact itp c2 (hno (fun z => n_lt_le c2 (inO_iff.1 z).2))
  refine itn c2 ?_
  obtain ⟨n, h1, h2, h3, h4⟩ := i800 (fun z => c1 (by
    rw [Int32.lt_iff_toInt_lt] at z
    have z : y.toInt < 1 := z
    rw [Int32.le_iff_toInt_le]
    show y.toInt ≤ 0
    omega)) c2
  have hi : inO y := by rw [inO, h4]; exact ⟨h1, h2⟩
  obtain ⟨⟨l1, l2⟩, m1, m2, m3⟩ := id h
  have hv : vp_in y (mL M 521 0) := by rw [l1, h3]; exact (vp_oN (by omega)).mpr (by omega)
  refine ⟨hv, ?_⟩
  rw [h4, m1 n (by omega)]
  cases e : p.1 n with
  | true =>
    refine itn (by decide) (hQ M ?_ (Fr.rf _ _))
    have : mkM p y = p := by unfold mkM; rw [if_neg (fun z => by rw [h4, e] at z; exact absurd z.2 (by decide))]
    rw [this]
    exact h
  | false =>
    have hl := hp.len1 hi (by rw [h4]; exact e)
    have e18 : mI (sI M 521 0 n ((1 : Int32) &&& 1)) 11 0 112 = Int32.ofNat p.2.length := m2
    refine itp rfl ⟨hv, by rw [e18]; exact (vp_oN (by omega)).mpr (show p.2.length < mL M 120 0 by rw [l2]; omega), _, rfl, ?_⟩
    rw [e18, oN_tnc (k := p.2.length) (by omega)]
    have em : mkM p y = (up1 p.1 n true, p.2 ++ [n]) := by unfold mkM; rw [if_pos ⟨hi, by rw [h4]; exact e⟩, h4]
    have e18' : mI (sI (sI M 521 0 n ((1 : Int32) &&& 1)) 120 0 p.2.length y) 11 0 112 = Int32.ofNat p.2.length := m2
    rw [e18', lit32 1, oN_add]
    exact hQ _ (mkR.push ⟨⟨l1, l2⟩, m1, m2, m3⟩ (by decide) (by decide) (by decide) h3 em) (Fr.wI rfl (Fr.wIa rfl rfl (Fr.wIa rfl rfl (Fr.rf _ _))))
theorem ct_cl66 {k50 : Int32 → Mem → Prop} (hW : WO W) (hG : GL W s) (hc : c < W.length) (hp : okP p0) (hk : ∀ M', TC G US A S W k br nq nl nf nk B F x s M' → tMk (mkL p0 (fxV W s c (gc W c).2.2.2.2.1.length)) M' → k50 (Int32.ofNat (c + 1)) M') (hty : ∀ c f, c < W.length → f < (gc W c).2.2.2.2.1.length → tyOk (gfl (gc W c) f).2.1) : ∀ n f M, f ≤ (gc W c).2.2.2.2.1.length → (gc W c).2.2.2.2.1.length - f < n → TC G US A S W k br nq nl nf nk B F x s M → tMk (mkL p0 (fxV W s c f)) M → w_Model_collect_L66 0 Q k50 n (Int32.ofNat c) (Int32.ofNat (8 * c + f)) M
  | 0, f, M, hf, hn, h, hm => absurd hn (by omega)
  | n + 1, f, M, hf, hn, h, hm => by
    have h51 := hW.2.2.2
    have hT := h.1
    have hLA := hT.1.1.2.2.1
    obtain ⟨⟨-, l140, l141, -, -, l143⟩, hfl⟩ := hT.1.1.1.1.1.2.1
    obtain ⟨⟨e135, h8⟩, hfl⟩ := hfl c hc
    have l135 : mL M 135 k = 51 := hT.1.1.1.1.1.1.2.2.2.1
    have e135 : mI M 135 k c = Int32.ofNat (gc W c).2.2.2.2.1.length := e135
    unfold w_Model_collect_L66
    refine ⟨k, hT.r45, ?_⟩
    rw [oN_tnc (k := c) (by omega), oN_tnc (k := 8 * c + f) (by omega), l135, e135, show (8 : Int32) * Int32.ofNat c = Int32.ofNat (8 * c) from oN_mul 8 _, oN_add]
    refine ⟨(vp_oN (by omega)).mpr (by omega), ?_⟩
    by_cases ef : f = (gc W c).2.2.2.2.1.length
    · refine itp (le_oN (by omega) (by omega)) ?_
      rw [lit32 1, oN_add]
      rw [ef] at hm
      exact hk M h hm
    refine itn (nle_oN (by omega) (by omega)) ⟨k, hT.r45, ?_⟩
    obtain ⟨-, ⟨e140, ko⟩, e141, -⟩ := hfl f (by omega)
    have e140 : mI M 140 k (8 * c + f) = kt A (gfl (gc W c) f).2.1 := e140
    have e141 : mI M 141 k (8 * c + f) = (gfl (gc W c) f).2.2.1 := e141
    have hk0 := kt_num (hty c f hc (by omega)) ko (by omega)
    rw [e141, l141]
    refine ⟨(vp_oN (by omega)).mpr (by omega), ?_⟩
    have go : ∀ M', TC G US A S W k br nq nl nf nk B F x s M' → tMk (mkL p0 (fxV W s c (f + 1))) M' → w_Model_collect_j124 0 Q k50 (w_Model_collect_L66 0 Q k50 n) (Int32.ofNat c) (Int32.ofNat (8 * c + f)) M' := fun M' h' hm' => by
      unfold w_Model_collect_j124
      rw [lit32 1, oN_add]
      exact ct_cl66 hW hG hc hp hk hty n (f + 1) M' (by omega) (by omega) h' hm'
    have es := mkL_sel (p := p0) (P := fun f => decide (¬ (gfl (gc W c) f).2.2.1 &&& 1 = 0 ∧ (gfl (gc W c) f).2.1.1 ≠ 0)) (g := fun f => zS s c f) (n := f)
    by_cases c1 : (gfl (gc W c) f).2.2.1 &&& 1 = 0
    · refine itp c1 (go M h ?_)
      rw [if_neg (fun z => (of_decide_eq_true z).1 c1)] at es
      unfold fxV at hm ⊢
      rw [es]; exact hm
    refine itn c1 ⟨k, hT.r45, by rw [l140]; exact (vp_oN (by omega)).mpr (by omega), ?_⟩
    by_cases c2 : (gfl (gc W c) f).2.1.1 = 0
    · have e0 : (gfl (gc W c) f).2.1 = (0, []) := by
        rcases hty c f hc (by omega) with z | z | z
        · exact z
        · rw [z] at c2; exact absurd c2 (by decide)
        · rw [z] at c2; exact absurd c2 (by decide)
      refine itp (e140.trans (hk0.mpr e0)) (go M h ?_)
      rw [if_neg (fun z => (of_decide_eq_true z).2 c2)] at es
      unfold fxV at hm ⊢
      rw [es]; exact hm
    refine itn (fun z => c2 (by rw [hk0.mp (e140.symm.trans z)])) ⟨k, hT.r45, by rw [l143]; exact (vp_oN (by omega)).mpr (by omega), ?_⟩
    have e143 : mI M 143 k (8 * c + f) = tr (decide ((gfl (gc W c) f).2.1.1 ≠ 0)) (zS s c f) := hT.2.1.2 c f hc (by omega) c1
    have hv : vRf s (zS s c f) := (hG.2.2.1.1 c f hc (by omega) c1).2 (decide_eq_true c2)
    rw [e143, decide_eq_true c2]
    refine ct_mark hm hp.mkl (fun M' hm' hf' => go M' (TC.mk h hf') ?_)
    rw [mkM_tr hv] at hm'
    rw [if_pos (decide_eq_true ⟨c1, c2⟩)] at es
    unfold fxV at hm' ⊢
    rw [es]; exact hm'
theorem ct_cl50 (hW : WO W) (hG : GL W s) (hty : ∀ c f, c < W.length → f < (gc W c).2.2.2.2.1.length → tyOk (gfl (gc W c) f).2.1) (hE : ∀ M', TC G US A S W k br nq nl nf nk B F x s M' → tMk (mkL mp0 (fxA W s (W.length - 21))) M' → ∃ n, w_Model_collect_L138 0 Q n 0 M') : ∀ n c M, 21 ≤ c → c ≤ W.length → W.length - c < n → TC G US A S W k br nq nl nf nk B F x s M → tMk (mkL mp0 (fxA W s (c - 21))) M → w_Model_collect_L50 0 Q n (Int32.ofNat c) M
  | 0, c, M, h1, h2, hn, h, hm => absurd hn (by omega)
  | n + 1, c, M, h1, h2, hn, h, hm => by
    have h51 := hW.2.2.2
    unfold w_Model_collect_L50
    refine ⟨k, h.1.r45, ?_⟩
    have e2 : mI M 12 k 2 = Int32.ofNat W.length := h.1.1.1.cl.1.1.1
    rw [e2]
    by_cases ec : c = W.length
    · refine itp (le_oN (by omega) (by omega)) ?_
      rw [ec] at hm
      exact hE M h hm
    refine itn (nle_oN (by omega) (by omega)) ⟨(gc W c).2.2.2.2.1.length + 1, ?_⟩
    rw [show (8 : Int32) * Int32.ofNat c = Int32.ofNat (8 * c) from oN_mul 8 _]
    refine ct_cl66 hW hG (by omega) (p0 := mkL mp0 (fxA W s (c - 21))) okP.z.mkl (fun M' h' hm' => ?_) hty _ 0 M (Nat.zero_le _) (by omega) h hm
    refine ct_cl50 hW hG hty hE n (c + 1) M' (by omega) (by omega) (by omega) h' ?_
    rw [show c + 1 - 21 = (c - 21) + 1 by omega]
    unfold fxA
    rw [mkL_app, show 21 + (c - 21) = c by omega]
    exact hm'
end
