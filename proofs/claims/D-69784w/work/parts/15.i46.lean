/-! the twin marks the labels of a method -/
theorem an11 : ((1 : Int32) &&& 1) = 1 := by decide
theorem an01 : ((0 : Int32) &&& 1) = 0 := by decide
abbrev SPu : Nat := (729468564308762096061292608618104212381582867063557551241996889870995898264200088979488492719712607932266379359137247354515334365181934580164965825242726771962489421678244467427945683738400480514925412216230720078349470885997069189118670694960992898523537443124859939485541957490750632213586593689971638355537432888036622390557951636381398703820030389336784757318833506264941027206854293823738648417429236597641760892492602819656649216532890220041381488710687038106342577105584971476143317548082771688045883800998329935398194816256877555554497525070425856061195504935805020327076983651365345530836221864342677563314360040292666094214968521849719221842625108437019375198587939042449437069500772178250770332397953354852383643075118249237381554337252061184071684885883172348572077322958334068575757152589811265312851975926249723810736085136789154646649200014058174563135070508336325315113980305752249812015483203607639273671599992151490852192224295334989526995236285970130761956971603598329334246174441945142529232681345300860038896889756815065118719856483144061108725881501599345701659093807126406156484002607271911380740467012399769440425380441228484044370404852960955373363344655558718662324979052444061861170244818776916044097794832736603914426534693339362059270630898192906709196663712167299029037650035572812625947414742127059859388110711258941738263207271344951809895822828189821592656272470488405961219282051112496918725207395657474574579941441453937585507502665645589990537089180820892087822630650545648210092882637400808761633440516323990181890107294085579026574355387323693953226745876154938175956043066885052813017088)
def tMkl (T : Nat → Prop) (n : Nat) (M : Mem) : Prop := ∀ k, k ≤ n → (T k → mI M 518 0 k = 1) ∧ (¬ T k → mI M 518 0 k = 0)
theorem tMkl.of {T T' : Nat → Prop} {n : Nat} {M : Mem} (h : tMkl T n M) (e : ∀ k, T k ↔ T' k) : tMkl T' n M := fun k hk => ⟨fun z => (h k hk).1 ((e k).2 z), fun z => (h k hk).2 (fun y => z ((e k).1 y))⟩
theorem tMkl.set {T T' : Nat → Prop} {n t : Nat} {M : Mem} (h : tMkl T n M) (e : ∀ k, T' k ↔ (T k ∨ k = t)) : tMkl T' n (sI M 518 0 t 1) := fun k hk => by
  rw [mI_sI]
  by_cases ek : k = t
  · rw [if_pos ⟨rfl, rfl, ek⟩]
    exact ⟨fun _ => rfl, fun z => absurd ((e k).2 (Or.inr ek)) z⟩
  · rw [if_neg (fun z => ek z.2.2)]
    exact ⟨fun z => (h k hk).1 (((e k).1 z).resolve_right ek), fun z => (h k hk).2 (fun y => z ((e k).2 (Or.inl y)))⟩
/-- what writing asks of a method's code -/
def wfQ (x : Mth) : Prop := wfT x ∧ wfR x ∧ ((co x).length ≤ 80 ∧ ∀ i ∈ co x, wfI (co x).length i) ∧ ((hs x).length ≤ 8 ∧ ∀ h ∈ hs x, wfH (co x).length h) ∧ True
theorem wfM.q {x : Mth} (h : wfM x) : wfQ x := ⟨h.1, h.2.1, h.2.2.1, h.2.2.2.1, trivial⟩
theorem wf_tQ {x : Mth} (hx : wfQ x) {i t : Nat} (hi : i < (co x).length) (ht : t ∈ iT (gin (co x) i)) : t < (co x).length := (hx.2.2.1.2 _ (getD_mem hi)).2.2.1 t ht
theorem tls_hQ {x : Mth} (hx : wfQ x) {k : Nat} (hk : k < (hs x).length) : ((ghn (hs x) k).1 ≤ (co x).length ∧ tls x (ghn (hs x) k).1 = true) ∧ ((ghn (hs x) k).2.1 ≤ (co x).length ∧ tls x (ghn (hs x) k).2.1 = true) ∧ ((ghn (hs x) k).2.2.1 ≤ (co x).length ∧ tls x (ghn (hs x) k).2.2.1 = true) := by
  have hw := hx.2.2.2.1.2 (ghn (hs x) k) (getD_mem hk)
  exact ⟨⟨Nat.le_of_lt hw.1, tls_iff.2 (Or.inr ⟨k, hk, Or.inl rfl⟩)⟩, ⟨hw.2.1, tls_iff.2 (Or.inr ⟨k, hk, Or.inr (Or.inl rfl)⟩)⟩, ⟨Nat.le_of_lt hw.2.2.1, tls_iff.2 (Or.inr ⟨k, hk, Or.inr (Or.inr rfl)⟩)⟩⟩
/-- a method while it is written -/
def TMt (G : List Sl) (US : UST) (A : List Nm) (S : List Sg) (W : List Cls) (w : Nat) (br : Int32) (nq nl nf nk : Nat) (m q0 : Nat) (x : Mth) (P : List Int32) (M : Mem) : Prop := (TPn G US A S W w br nq nl nf nk P M ∧ mL M 518 0 = 81) ∧ ((mI M 149 w m = Int32.ofNat q0 ∧ mI M 150 w m = Int32.ofNat (co x).length ∧ mI M 151 w m = Int32.ofNat (hs x).length) ∧ (∀ i, i < (co x).length → tFi A S w nl nf nk (q0 + i) (gin (co x) i) M) ∧ ∀ i, i < (hs x).length → tHn A w (8 * m + i) (Int32.ofNat (ghn (hs x) i).1) (Int32.ofNat (ghn (hs x) i).2.1) (Int32.ofNat (ghn (hs x) i).2.2.1) (ghn (hs x) i).2.2.2 M) ∧ (q0 + (co x).length ≤ nq ∧ m < 612 ∧ ∀ f, 152 ≤ f → f ≤ 155 → mL M f w = 4896) ∧ wfQ x
section
variable {G : List Sl} {US : UST} {A : List Nm} {S : List Sg} {W : List Cls} {w : Nat} {br : Int32} {nq nl nf nk : Nat} {P P' : List Int32} {M M1 M' : Mem} {Q : Mem → Prop} {k f q d m q0 : Nat} {v : Int32} {x : Mth} {i : Ins}
theorem TPn.m518 (h : TPn G US A S W w br nq nl nf nk P M) : TPn G US A S W w br nq nl nf nk P (sI M 518 0 k v) ∧ PgF G SPu M (sI M 518 0 k v) := by
  have f0 : Fr (858099707516326214372737599885174152158679412517913176174307932398192897924707006515319955082681819372162038923935107254640248499964580476571753536389382144) M (sI M 518 0 k v) := Fr.wIa rfl rfl (Fr.rf _ _)
  have pf : PgF G SPu M (sI M 518 0 k v) := ⟨(GF.rf h.1.1.1.2.2.2).fr f0 h.gp.1, Fr.wIa rfl rfl (Fr.rf _ _), Pz.rf.wI (by decide)⟩
  obtain ⟨a, b, c, d⟩ := h.2
  exact ⟨⟨⟨h.1.1.pf pf, h.1.2⟩, a, b, c, d⟩, pf⟩
theorem TMt.pf (h : TMt G US A S W w br nq nl nf nk m q0 x P M) (h1 : TPn G US A S W w br nq nl nf nk P' M') (f1 : PgF G SPu M M') : TMt G US A S W w br nq nl nf nk m q0 x P' M' := by
  obtain ⟨⟨a1, a2⟩, ⟨⟨b1, b2', b3⟩, b4, b5⟩, ⟨c1, c2, c3⟩, c4⟩ := h
  have hr := a1.1.1.rk f1
  refine ⟨⟨h1, (f1.2.1.L rfl 0).trans a2⟩, ⟨⟨(f1.2.1.Ia rfl rfl w m).trans b1, (f1.2.1.Ia rfl rfl w m).trans b2', (f1.2.1.Ia rfl rfl w m).trans b3⟩, fun i hi => (b4 i hi).keep hr (by omega), fun i hi => (b5 i hi).of (fun f z1 z2 => ?_)⟩, ⟨c1, c2, fun f z1 z2 => ?_⟩, c4⟩
  · have : f = 152 ∨ f = 153 ∨ f = 154 ∨ f = 155 := by omega
    rcases this with e | e | e | e <;> subst e <;> exact f1.2.1.Ia rfl rfl w _
  · refine Eq.trans ?_ (c3 f z1 z2)
    have : f = 152 ∨ f = 153 ∨ f = 154 ∨ f = 155 := by omega
    rcases this with e | e | e | e <;> subst e <;> exact f1.2.1.L rfl w
theorem PgF.up (h : PgF G SPt M M') : PgF G SPu M M' := ⟨h.1, h.2.1.sub (by rfl), h.2.2⟩
theorem TMt.hb (h : TMt G US A S W w br nq nl nf nk m q0 x P M) : (co x).length ≤ 80 ∧ (hs x).length ≤ 8 ∧ q0 + (co x).length ≤ 3900 ∧ m < 612 ∧ nq ≤ 3900 ∧ nl ≤ 3900 := by
  have := h.1.1.1.1.1.1.2.2.2
  have h1 := h.2.2.1.1
  have h2 := h.2.2.1.2.1
  exact ⟨h.2.2.2.2.2.1.1, h.2.2.2.2.2.2.1.1, by omega, h2, by omega, by omega⟩
theorem TMt.pi (h : TMt G US A S W w br nq nl nf nk m q0 x P M) (hT : tTd x M) (hk : k < (co x).length) : TPi G US A S W w br nq nl nf nk x (q0 + k) (gin (co x) k) P M := by
  have h1 := h.2.2.1.1
  exact ⟨⟨h.1.1, hT, h.2.1.2.1 k hk⟩, by omega, h.hb.1, fun t ht => Nat.le_of_lt (wf_tQ h.2.2.2 hk ht)⟩
/-- the mark of one label -/
theorem TMt.mk {t : Nat} (h : TMt G US A S W w br nq nl nf nk m q0 x P M) : TMt G US A S W w br nq nl nf nk m q0 x P (sI M 518 0 t v) ∧ PgF G SPu M (sI M 518 0 t v) := ⟨h.pf h.1.1.m518.1 h.1.1.m518.2, h.1.1.m518.2⟩
theorem ct_m295 {n : Nat} (hn : n = (co x).length) (hQ : ∀ M', TMt G US A S W w br nq nl nf nk m q0 x P M' → tMkl (tlN x n (hs x).length) n M' → PgF G SPu M M' → ∃ e, w_Model_putMethod_L359 0 Q e (Int32.ofNat m) (Int32.ofNat q0) (Int32.ofNat n) (Int32.ofNat (8 * m + (hs x).length)) 0 M') : ∀ f i M1, i ≤ (hs x).length → (hs x).length - i < f → TMt G US A S W w br nq nl nf nk m q0 x P M1 → tMkl (tlN x n i) n M1 → PgF G SPu M M1 → w_Model_putMethod_L295 0 Q f (Int32.ofNat m) (Int32.ofNat q0) (Int32.ofNat n) (Int32.ofNat (8 * m + (hs x).length)) (Int32.ofNat (8 * m + i)) M1
  | 0, i, M1, hi, hf, h, hm, h1 => absurd hf (by omega)
  | f + 1, i, M1, hi, hf, h, hm, h1 => by
    obtain ⟨q1, q2, q3, q4, -⟩ := h.hb
    unfold w_Model_putMethod_L295
    rw [an11]
    by_cases e : i = (hs x).length
    · subst e
      exact itp (le_oN (Nat.le_refl _) (by omega)) (hQ M1 h hm h1)
    refine itn (nle_oN (by omega) (by omega)) ?_
    obtain ⟨hw1, hw2, hw3, -⟩ := h.2.2.2.2.2.2.1.2 (ghn (hs x) i) (getD_mem (by omega))
    obtain ⟨a1, a2, a3, -⟩ := h.2.1.2.2 i (by omega)
    have l3 := h.2.2.1.2.2
    have vin : ∀ (g : Nat) (M2 : Mem), TMt G US A S W w br nq nl nf nk m q0 x P M2 → 152 ≤ g → g ≤ 155 → vp_in (Int32.ofNat (8 * m + i)) (mL M2 g w) := fun g M2 z z1 z2 => by
      rw [z.2.2.1.2.2 g z1 z2]; exact (vp_oN (by omega)).mpr (by omega)
    have v81 : ∀ (t : Nat) (M2 : Mem), TMt G US A S W w br nq nl nf nk m q0 x P M2 → t ≤ 80 → vp_in (Int32.ofNat t) (mL M2 518 0) := fun t M2 z z1 => by
      rw [z.1.2]; exact (vp_oN (by omega)).mpr (by omega)
    refine ⟨w, h.1.1.1.1.r45, vin 152 M1 h (by omega) (by omega), ?_⟩
    rw [oN_tnc (k := 8 * m + i) (by omega), a1, oN_tnc (k := (ghn (hs x) i).1) (by omega)]
    refine ⟨v81 _ M1 h (by omega), _, rfl, ?_⟩
    obtain ⟨g2, p2⟩ := h.mk (t := (ghn (hs x) i).1) (v := 1)
    have m2 := hm.set (T' := fun k => tlN x n i k ∨ k = (ghn (hs x) i).1) (t := (ghn (hs x) i).1) (fun k => Iff.rfl)
    generalize sI M1 518 0 (ghn (hs x) i).1 1 = M2 at g2 p2 m2 ⊢
    obtain ⟨-, a2, -⟩ := g2.2.1.2.2 i (by omega)
    refine ⟨w, g2.1.1.1.1.r45, vin 153 M2 g2 (by omega) (by omega), ?_⟩
    rw [a2, oN_tnc (k := (ghn (hs x) i).2.1) (by omega)]
    refine ⟨v81 _ M2 g2 (by omega), _, rfl, ?_⟩
    obtain ⟨g3, p3⟩ := g2.mk (t := (ghn (hs x) i).2.1) (v := 1)
    have m3 := m2.set (T' := fun k => (tlN x n i k ∨ k = (ghn (hs x) i).1) ∨ k = (ghn (hs x) i).2.1) (t := (ghn (hs x) i).2.1) (fun k => Iff.rfl)
    generalize sI M2 518 0 (ghn (hs x) i).2.1 1 = M3 at g3 p3 m3 ⊢
    obtain ⟨-, -, a3, -⟩ := g3.2.1.2.2 i (by omega)
    refine ⟨w, g3.1.1.1.1.r45, vin 154 M3 g3 (by omega) (by omega), ?_⟩
    rw [a3, oN_tnc (k := (ghn (hs x) i).2.2.1) (by omega)]
    refine ⟨v81 _ M3 g3 (by omega), _, rfl, ?_⟩
    obtain ⟨g4, p4⟩ := g3.mk (t := (ghn (hs x) i).2.2.1) (v := 1)
    rw [lit32 1, oN_add]
    refine ct_m295 hn hQ f (i + 1) _ (by omega) (by omega) g4 (m3.set (fun k => ?_)) (((h1.trans p2).trans p3).trans p4)
    constructor
    · rintro (z | ⟨j, hj, z⟩)
      · exact Or.inl (Or.inl (Or.inl (Or.inl z)))
      · by_cases ej : j = i
        · subst ej
          rcases z with z | z | z
          · exact Or.inl (Or.inl (Or.inr z))
          · exact Or.inl (Or.inr z)
          · exact Or.inr z
        · exact Or.inl (Or.inl (Or.inl (Or.inr ⟨j, by omega, z⟩)))
    · rintro ((((z | ⟨j, hj, z⟩) | z) | z) | z)
      · exact Or.inl z
      · exact Or.inr ⟨j, by omega, z⟩
      · exact Or.inr ⟨i, by omega, Or.inl z⟩
      · exact Or.inr ⟨i, by omega, Or.inr (Or.inl z)⟩
      · exact Or.inr ⟨i, by omega, Or.inr (Or.inr z)⟩
theorem ct_m228 {K : Int32 → Int32 → Int32 → Int32 → Int32 → Mem → Prop} {v1 v2 v3 v4 : Int32} {n i : Nat} (hn : n = (co x).length) (hi : i < (co x).length) {T : Nat → Prop} (ho : (gin (co x) i).1 = 40) (hQ : ∀ M', TMt G US A S W w br nq nl nf nk m q0 x P M' → tMkl (fun k => T k ∨ k ∈ iT (gin (co x) i)) n M' → PgF G SPu M M' → K v1 v2 v3 v4 (Int32.ofNat (q0 + i) + 1) M') : ∀ f j M1, j ≤ (iT (gin (co x) i)).length → (iT (gin (co x) i)).length - j < f → TMt G US A S W w br nq nl nf nk m q0 x P M1 → tMkl (fun k => T k ∨ k ∈ (iT (gin (co x) i)).take j) n M1 → PgF G SPu M M1 → w_Model_putMethod_L228 0 Q K f v1 v2 v3 v4 (Int32.ofNat (q0 + i)) (Int32.ofNat (gin (co x) i).1) (Int32.ofNat j) M1
  | 0, j, M1, hj, hf, h, hm, h1 => absurd hf (by omega)
  | f + 1, j, M1, hj, hf, h, hm, h1 => by
    obtain ⟨q1, q2, q3, q4, q5, q6⟩ := h.hb
    have hq0 := h.2.2.1.1
    obtain ⟨-, -, t3, -⟩ := (h.2.1.2.1 i hi).2.1
    obtain ⟨lf, p1, p2, p3, p4⟩ := t3 ho
    have el : ((iT (gin (co x) i)).map Int32.ofNat).length = (iT (gin (co x) i)).length := List.length_map _
    rw [show (gin (co x) i).2.2.2.1.map Int32.ofNat = (iT (gin (co x) i)).map Int32.ofNat from rfl, el] at p2 p3 p4
    have p1 : mI M1 300 (rdI M1 (sBs w)) (q0 + i) = Int32.ofNat lf := p1
    have p2 : mI M1 300 (rdI M1 (sCs w)) (q0 + i) = Int32.ofNat (iT (gin (co x) i)).length := p2
    have B := h.1.1.1.1
    have rC : ∀ s ∈ XC w, nq ≤ mL M1 s.2.2.2 (rdI M1 s) := fun s hs => B.1.1.2.2.1.1 s hs
    have r4 : nl ≤ mL M1 300 (rdI M1 (sLi w)) := B.1.1.2.2.1.2.1
    have rB : nq ≤ mL M1 300 (rdI M1 (sBs w)) := rC (sBs w) (by simp)
    have rCs : nq ≤ mL M1 300 (rdI M1 (sCs w)) := rC (sCs w) (by simp)
    unfold w_Model_putMethod_L228
    rw [an11]
    refine itp (by rw [ho]; rfl) ⟨w, B.r45, _, B.slt (s := sCs w) (by simp), (vp_oN (by omega)).mpr (by omega), ?_⟩
    rw [oN_tnc (k := q0 + i) (by omega), p2]
    by_cases e : j = (iT (gin (co x) i)).length
    · refine itp (le_oN (by omega) (by omega)) ?_
      unfold w_Model_putMethod_j283
      rw [e, List.take_length] at hm
      exact hQ M1 h hm h1
    have hjl : j < (iT (gin (co x) i)).length := by omega
    have htn := wf_tQ h.2.2.2 hi (gtn_mem hjl)
    have p4 : mI M1 300 (rdI M1 (sLi w)) (lf + j) = Int32.ofNat (gtn (iT (gin (co x) i)) j) := by
      refine (p4 j hjl).trans ?_
      show ((iT (gin (co x) i)).map Int32.ofNat).getD j 0 = Int32.ofNat ((iT (gin (co x) i)).getD j 0)
      rw [List.getD_eq_getElem?_getD, List.getD_eq_getElem?_getD, List.getElem?_map, List.getElem?_eq_getElem hjl]; rfl
    refine itn (nle_oN (by omega) (by omega)) ⟨w, B.r45, _, B.slt (s := sLi w) (by simp), w, B.r45, _, B.slt (s := sBs w) (by simp), (vp_oN (by omega)).mpr (by omega), ?_⟩
    rw [p1, oN_add, oN_tnc (k := lf + j) (by omega), p4, oN_tnc (k := gtn (iT (gin (co x) i)) j) (by omega)]
    refine ⟨(vp_oN (by omega)).mpr (by omega), by rw [h.1.2]; exact (vp_oN (by omega)).mpr (by omega), _, rfl, ?_⟩
    obtain ⟨g2, f2⟩ := h.mk (t := gtn (iT (gin (co x) i)) j) (v := 1)
    rw [lit32 1, oN_add]
    refine ct_m228 hn hi ho hQ f (j + 1) _ (by omega) (by omega) g2 (hm.set (fun k => ?_)) (h1.trans f2)
    have et : (iT (gin (co x) i)).take (j + 1) = (iT (gin (co x) i)).take j ++ [gtn (iT (gin (co x) i)) j] := by
      rw [List.take_add_one, List.getElem?_eq_getElem hjl]
      show _ ++ [_] = _
      congr 2
      show _ = (iT (gin (co x) i)).getD j 0
      rw [List.getD_eq_getElem?_getD, List.getElem?_eq_getElem hjl]; rfl
    rw [et, List.mem_append, List.mem_singleton, or_assoc]
theorem ct_m175 {n : Nat} (hn : n = (co x).length) (hQ : ∀ M', TMt G US A S W w br nq nl nf nk m q0 x P M' → tMkl (tlN x n (hs x).length) n M' → PgF G SPu M M' → ∃ e, w_Model_putMethod_L359 0 Q e (Int32.ofNat m) (Int32.ofNat q0) (Int32.ofNat n) (Int32.ofNat (8 * m + (hs x).length)) 0 M') : ∀ f i M1, i ≤ n → n - i < f → TMt G US A S W w br nq nl nf nk m q0 x P M1 → tMkl (tlN x i 0) n M1 → PgF G SPu M M1 → w_Model_putMethod_L175 0 Q f (Int32.ofNat m) (Int32.ofNat q0) (Int32.ofNat n) (Int32.ofNat (8 * m + (hs x).length)) (Int32.ofNat (q0 + i)) M1
  | 0, i, M1, hi, hf, h, hm, h1 => absurd hf (by omega)
  | f + 1, i, M1, hi, hf, h, hm, h1 => by
    obtain ⟨q1, q2, q3, q4, q5, q6⟩ := h.hb
    have hq0 := h.2.2.1.1
    have B := h.1.1.1.1
    unfold w_Model_putMethod_L175
    rw [an11]
    rw [oN_add]
    by_cases e : i = n
    · subst e
      refine itp (le_oN (Nat.le_refl _) (by omega)) ⟨(hs x).length + 1, ?_⟩
      rw [lit32 8, oN_mul]
      exact ct_m295 hn hQ _ 0 M1 (Nat.zero_le _) (by omega) h hm h1
    have hi2 : i < (co x).length := by omega
    have ti := h.2.1.2.1 i hi2
    have e30 : mI M1 401 (rdI M1 (sOp w)) (q0 + i) = Int32.ofNat (gin (co x) i).1 := ti.1.1
    have h62 : (gin (co x) i).1 < 62 := ti.1.2
    have rC : ∀ s ∈ XC w, nq ≤ mL M1 s.2.2.2 (rdI M1 s) := fun s hs => B.1.1.2.2.1.1 s hs
    have rO : nq ≤ mL M1 401 (rdI M1 (sOp w)) := rC (sOp w) (by simp)
    have rA : nq ≤ mL M1 300 (rdI M1 (sAs w)) := rC (sAs w) (by simp)
    refine itn (nle_oN (by omega) (by omega)) ⟨w, B.r45, _, B.slt (s := sOp w) (by simp), (vp_oN (by omega)).mpr (by omega), ?_⟩
    rw [oN_tnc (k := q0 + i) (by omega), e30]
    have go : ∀ M2, TMt G US A S W w br nq nl nf nk m q0 x P M2 → PgF G SPu M M2 → tMkl (tlN x (i + 1) 0) n M2 → w_Model_putMethod_L175 0 Q f (Int32.ofNat m) (Int32.ofNat q0) (Int32.ofNat n) (Int32.ofNat (8 * m + (hs x).length)) (Int32.ofNat (q0 + i) + 1) M2 := fun M2 h2 f2 t2 => by
      rw [lit32 1, oN_add]
      exact ct_m175 hn hQ f (i + 1) M2 (by omega) (by omega) h2 t2 f2
    have hT : ∀ k, (tlN x i 0 k ∨ k ∈ iT (gin (co x) i)) ↔ tlN x (i + 1) 0 k := fun k => by
      constructor
      · rintro ((⟨j, hj, z⟩ | ⟨j, hj, -⟩) | z)
        · exact Or.inl ⟨j, by omega, z⟩
        · exact absurd hj (by omega)
        · exact Or.inl ⟨i, by omega, z⟩
      · rintro (⟨j, hj, z⟩ | ⟨j, hj, -⟩)
        · by_cases ej : j = i
          · rw [ej] at z; exact Or.inr z
          · exact Or.inl (Or.inl ⟨j, by omega, z⟩)
        · exact absurd hj (by omega)
    have skip : ∀ M2, TMt G US A S W w br nq nl nf nk m q0 x P M2 → PgF G SPu M M2 → tMkl (tlN x (i + 1) 0) n M2 → (gin (co x) i).1 ≠ 40 → w_Model_putMethod_j225 0 Q (w_Model_putMethod_L175 0 Q f) (Int32.ofNat m) (Int32.ofNat q0) (Int32.ofNat n) (Int32.ofNat (8 * m + (hs x).length)) (Int32.ofNat (q0 + i)) (Int32.ofNat (gin (co x) i).1) M2 := fun M2 h2 f2 t2 ho => by
      unfold w_Model_putMethod_j225
      refine ⟨1, ?_⟩
      unfold w_Model_putMethod_L228
      refine itn (ne_oN (b := 40) ho (by omega) (by omega)) ?_
      unfold w_Model_putMethod_j283
      exact go M2 h2 f2 t2
    have notJ : ¬ isJ (gin (co x) i).1 → w_Model_putMethod_j225 0 Q (w_Model_putMethod_L175 0 Q f) (Int32.ofNat m) (Int32.ofNat q0) (Int32.ofNat n) (Int32.ofNat (8 * m + (hs x).length)) (Int32.ofNat (q0 + i)) (Int32.ofNat (gin (co x) i).1) M1 := fun cj => by
      by_cases ho : (gin (co x) i).1 = 40
      · unfold w_Model_putMethod_j225
        refine ⟨(iT (gin (co x) i)).length + 1, ct_m228 (M := M) (T := tlN x i 0) hn hi2 ho (fun M2 h2 t2 f2 => go M2 h2 f2 (t2.of hT)) _ 0 M1 (Nat.zero_le _) (by omega) h (hm.of (fun k => ?_)) h1⟩
        rw [List.take_zero]
        exact ⟨Or.inl, fun z => z.resolve_right (by simp)⟩
      · refine skip M1 h h1 (hm.of (fun k => ?_)) ho
        rw [← hT k, show iT (gin (co x) i) = [] from ti.2.2.2.2 cj ho]
        exact ⟨Or.inl, fun z => z.resolve_right (by simp)⟩
    by_cases c1 : (gin (co x) i).1 < 23
    · exact itp (lt_oN (b := 23) c1 (by omega)) (notJ (by unfold isJ; omega))
    refine itn (nlt_oN (b := 23) (by omega) (by omega)) ?_
    by_cases c2 : 39 < (gin (co x) i).1
    · exact itp (lt_oN (a := 39) c2 (by omega)) (notJ (by unfold isJ; omega))
    have cj : isJ (gin (co x) i).1 := ⟨by omega, by omega⟩
    have h1l : (iT (gin (co x) i)).length = 1 := ti.2.2.2.1 cj
    have htn := wf_tQ h.2.2.2 hi2 (gtn_mem (l := iT (gin (co x) i)) (j := 0) (by omega))
    have el : iT (gin (co x) i) = [gtn (iT (gin (co x) i)) 0] := by
      match hq : iT (gin (co x) i), h1l with
      | [y], _ => rfl
    have e31 : mI M1 300 (rdI M1 (sAs w)) (q0 + i) = Int32.ofNat (gtn (iT (gin (co x) i)) 0) := by
      refine (ti.2.1.1).trans ?_
      rw [if_pos cj]
      show ((iT (gin (co x) i)).map Int32.ofNat).headD 0 = _
      rw [el]; rfl
    refine itn (nlt_oN (a := 39) (by omega) (by omega)) ⟨w, B.r45, _, B.slt (s := sAs w) (by simp), (vp_oN (by omega)).mpr (by omega), ?_⟩
    rw [e31, oN_tnc (k := gtn (iT (gin (co x) i)) 0) (by omega)]
    refine ⟨by rw [h.1.2]; exact (vp_oN (by omega)).mpr (by omega), _, rfl, ?_⟩
    obtain ⟨g2, f2⟩ := h.mk (t := gtn (iT (gin (co x) i)) 0) (v := 1)
    refine skip _ g2 (h1.trans f2) (hm.set (fun k => ?_)) (by omega)
    rw [← hT k]
    rw [show (k ∈ iT (gin (co x) i)) ↔ k = gtn (iT (gin (co x) i)) 0 from by rw [el]; exact List.mem_singleton]
theorem ct_m152 {n : Nat} (hn : n = (co x).length) (hQ : ∀ M', TMt G US A S W w br nq nl nf nk m q0 x P M' → tTd x M' → PgF G SPu M M' → ∃ e, w_Model_putMethod_L359 0 Q e (Int32.ofNat m) (Int32.ofNat q0) (Int32.ofNat n) (Int32.ofNat (8 * m + (hs x).length)) 0 M') : ∀ f k M1, k ≤ n + 1 → n + 1 - k < f → TMt G US A S W w br nq nl nf nk m q0 x P M1 → (∀ j, j < k → mI M1 518 0 j = 0) → PgF G SPu M M1 → w_Model_putMethod_L152 0 Q f (Int32.ofNat m) (Int32.ofNat q0) (Int32.ofNat n) (Int32.ofNat (8 * m + (hs x).length)) (Int32.ofNat k) M1
  | 0, k, M1, hk, hf, h, hm, h1 => absurd hf (by omega)
  | f + 1, k, M1, hk, hf, h, hm, h1 => by
    obtain ⟨q1, q2, q3, q4, q5, q6⟩ := h.hb
    unfold w_Model_putMethod_L152
    rw [an01]
    by_cases e : k = n + 1
    · refine itp (lt_oN (by omega) (by omega)) ⟨n + 1, ?_⟩
      refine ct_m175 hn (fun M2 h2 t2 f2 => hQ M2 h2 ⟨h2.1.2, fun j hj => ?_⟩ f2) _ 0 M1 (Nat.zero_le _) (by omega) h (fun j hj => ⟨fun z => ?_, fun _ => hm j (by omega)⟩) h1
      · have hT : tlN x n (hs x).length j ↔ tlP x j := by unfold tlN tlP; rw [hn]
        cases c : tls x j with
        | true => exact (t2 j (by omega)).1 (hT.2 (tls_iff.1 c))
        | false => exact (t2 j (by omega)).2 (fun z => by rw [tls_iff.2 (hT.1 z)] at c; cases c)
      · rcases z with ⟨y, hy, -⟩ | ⟨y, hy, -⟩ <;> exact absurd hy (by omega)
    refine itn (nlt_oN (by omega) (by omega)) ?_
    rw [oN_tnc (k := k) (by omega), h.1.2]
    refine ⟨(vp_oN (by omega)).mpr (by omega), ?_⟩
    obtain ⟨g2, f2⟩ := h.mk (t := k) (v := 0)
    rw [lit32 1, oN_add]
    refine ct_m152 hn hQ f (k + 1) _ (by omega) (by omega) g2 (fun j hj => ?_) (h1.trans f2)
    rw [mI_sI]
    by_cases ej : j = k
    · rw [if_pos ⟨rfl, rfl, ej⟩]
    · rw [if_neg (fun z => ej z.2.2)]; exact hm j (by omega)
end
