/-! KINDS in the works: joins -/
theorem zJ_len {W : List Cls} {a b : List Kd} (h : a.length = b.length) : (zJ W a b).length = a.length := by
  show (List.zipWith (jnK W) a b).length = _
  rw [List.length_zipWith, h, Nat.min_self]
theorem zJ_gk {W : List Cls} {a b : List Kd} {i : Nat} (h : a.length = b.length) (hi : i < a.length) : gk (zJ W a b) i = jnK W (gk a i) (gk b i) := by
  show (List.zipWith (jnK W) a b).getD i _ = jnK W (a.getD i _) (b.getD i _)
  rw [List.getD_eq_getElem?_getD, List.getD_eq_getElem?_getD, List.getD_eq_getElem?_getD, List.getElem?_zipWith, List.getElem?_eq_getElem hi, List.getElem?_eq_getElem (by omega)]; rfl
theorem zJ_mem {W : List Cls} {a b : List Kd} (h : a.length = b.length) : uns ∈ zJ W a b ↔ ∃ i, i < a.length ∧ jnK W (gk a i) (gk b i) = uns := by
  constructor
  · intro q
    obtain ⟨i, hi, e⟩ := mem_gk q
    rw [zJ_len h] at hi
    rw [zJ_gk h hi] at e
    exact ⟨i, hi, e⟩
  · rintro ⟨i, hi, e⟩
    rw [← e, ← zJ_gk h hi]
    exact gk_me (by rw [zJ_len h]; exact hi)
theorem flgK {f : Bool} {l p : List Kd} {j : Nat} {κ : Kd} (hj : j < p.length) (hp : gk p j = gk l j) : ((f || !decide (l = p)) || decide (gk p j ≠ κ)) = (f || !decide (l = p.set j κ)) := by
  by_cases e : gk p j = κ
  · have e2 : p.set j κ = p := by
      refine gk_ext (by rw [List.length_set]) (fun i hi => ?_)
      rw [gk_set hj]
      by_cases q : i = j
      · rw [if_pos q, q, e]
      · rw [if_neg q]
    rw [show decide (gk p j ≠ κ) = false from decide_eq_false (fun q => q e), e2, Bool.or_false]
  · have e2 : ¬ l = p.set j κ := fun q => e (by rw [hp, q, gk_set hj, if_pos rfl])
    rw [show decide (gk p j ≠ κ) = true from decide_eq_true e, decide_eq_false e2, Bool.or_true]
    cases f <;> rfl
section
variable {A : List Nm} {W : List Cls} {w c k this : Nat} {br : Int32} {nq nk np nh nr a to : Nat} {lo st : List Kd} {kn : Bool} {M M' : Mem} {Q : Int32 → Mem → Prop} {Q' : Mem → Prop} {s : Ti}
theorem c_joinsx (h : KAx A W w c k br nq nk np nh nr this (ExI A (gmt (gc W c) k) s this) a lo st kn M) (hto : to < (co (gmt (gc W c) k)).length)
    (hQ : (jnS W s to lo st).1 = 0 → ∀ M', KAx A W w c k br nq nk np nh nr this (ExI A (gmt (gc W c) k) (jnS W s to lo st).2 this) a lo st kn M' → Fr (1170609743081147733776836272505236007549457390772044180188255305546720760419498044066422488271687189095931549238983678733295648635198173819635112708308435374285186632095706644089043539107585165141824059873427089705798755251288424890745871075325575724886045602029717715843723873572838000493809733511633686976695937059375024836175850047733188476429474395613855130959687137129146778833627631657377168262374351694911427930749739875045020090568854540104490977602045343045827853868098855597480749856100648816054493904732477486176213526868547328156893184) M M' → Q 1 M')
    (hX : (jnS W s to lo st).1 ≠ 0 → ∀ M', KZx A W w c k br nq nk np nh nr this (ExI A (gmt (gc W c) k) (jnS W s to lo st).2 this) a (jnS W s to lo st).1 M' → Fr (18290777235642933340263066757894312617960271730813190315441489149167511881554656938537851379245112329623930456859119980207744509924971465931798636067319302723206041126495416313891305298556018205341000935522298276653105550801381638917904235551962120701344462531714339310058185524575593757715777086119276359010874016552734763065247656995831069944210537431466486421245111517642918419275431744646465879849872906963070850382815443961142972642401663152500938863142420344348585423810912297233422249987158450804810506125297484616769170068467795158368256) M M' → Q 0 M') : w_Checker_joins this (Int32.ofNat to) Q M := by
  have hlr := h.1.lr
  have hsr := h.1.sr
  have h80 := h.1.wf.2.2.1.1
  have hla := h.1.la
  have hm := h.1.mlt
  obtain ⟨⟨t1, ⟨l1, l2, l3⟩, t2⟩, h14, h10, h15⟩ := id h.2.2.1.1
  have hh := h.ht
  have hlo := h.2.1.2.1
  have hst := h.2.1.2.2.1
  have l31 := h.2.1.1.1
  have l32 := h.2.1.1.2
  have e40 : (40 : Int32) * Int32.ofNat to = Int32.ofNat (40 * to) := oN_mul 40 to
  have e60 : Int32.ofNat (40 * to) + (20 : Int32) = Int32.ofNat (40 * to + 20) := oN_add _ 20
  obtain ⟨x1, x2⟩ := t2 to (by omega)
  unfold w_Checker_joins
  rw [oN_tnc (k := to) (by omega), x1, e40, e60, l1]
  refine ⟨(vp_oN (by omega)).mpr (by omega), ?_⟩
  unfold jnS at hQ hX
  cases e : gR s.1 to with
  | none =>
    rw [e] at hQ
    refine itp rfl ⟨(vp_oN (by omega)).mpr (by omega), by show vp_in _ (mL M 33 this); rw [l2]; exact (vp_oN (by omega)).mpr (by omega), _, rfl, by decide, nlt_oN (b := 0) (by omega) (by omega), by decide, ?_⟩
    have ez : (0 : Int32).toNatClampNeg = 0 := rfl
    have e20 : (20 : Int32).toNatClampNeg = 20 := rfl
    rw [ez, e20, oN_tnc (k := 40 * to) (by omega), oN_tnc (k := 40 * to + 20) (by omega), show (1 : Int32) &&& 1 = 1 from rfl, show mI (sI M 510 this to 1) 4 this 2 = Int32.ofNat st.length from by rw [mI_sI, if_neg (fun z => absurd z.1 (by decide))]; exact hh.1]
    refine ⟨by show 0 + 20 ≤ mL M 31 this; rw [l31]; omega, by show 40 * to + 20 ≤ mL M 34 this; rw [l3]; omega, _, rfl, by decide, nlt_oN (b := 0) (by omega) (by omega), ?_⟩
    have f5 : Fr (3351951982485649274893506249551461531869841455148098344430890360930441007518386744200468574541725856922507964546621512713438470702986642486608438021324800) M (cpI (sI (sI M 510 this to 1) 33 this to (Int32.ofNat st.length)) 31 this 0 34 this (40 * to) 20) := Fr.wcp rfl rfl (Fr.wIa rfl rfl (Fr.wIa rfl rfl (Fr.rf _ _)))
    have a5 : ∀ q, mI (cpI (sI (sI M 510 this to 1) 33 this to (Int32.ofNat st.length)) 31 this 0 34 this (40 * to) 20) 510 this q = if q = to then 1 else mI M 510 this q := fun q => by
      rw [mI_cpI, if_neg (fun z => absurd z.1 (by decide)), mI_sI, if_neg (fun z => absurd z.1 (by decide)), mI_sI]
      by_cases eq : q = to
      · rw [if_pos ⟨rfl, rfl, eq⟩, if_pos eq]
      · rw [if_neg (fun z => eq z.2.2), if_neg eq]
    have a3 : ∀ q, mI (cpI (sI (sI M 510 this to 1) 33 this to (Int32.ofNat st.length)) 31 this 0 34 this (40 * to) 20) 33 this q = if q = to then Int32.ofNat st.length else mI M 33 this q := fun q => by
      rw [mI_cpI, if_neg (fun z => absurd z.1 (by decide)), mI_sI]
      by_cases eq : q = to
      · rw [if_pos ⟨rfl, rfl, eq⟩, if_pos eq]
      · rw [if_neg (fun z => eq z.2.2), if_neg eq, mI_sI, if_neg (fun z => absurd z.1 (by decide))]
    have a4 : ∀ q, mI (cpI (sI (sI M 510 this to 1) 33 this to (Int32.ofNat st.length)) 31 this 0 34 this (40 * to) 20) 34 this q = if 40 * to ≤ q ∧ q < 40 * to + 20 then mI M 31 this (q - 40 * to) else mI M 34 this q := fun q => by
      rw [mI_cpI, if_pos ⟨rfl, rfl⟩]
      by_cases eq : 40 * to ≤ q ∧ q < 40 * to + 20
      · rw [if_pos eq, if_pos eq, Nat.zero_add, mI_sI, if_neg (fun z => absurd z.1 (by decide)), mI_sI, if_neg (fun z => absurd z.1 (by decide))]
      · rw [if_neg eq, if_neg eq, mI_sI, if_neg (fun z => absurd z.1 (by decide)), mI_sI, if_neg (fun z => absurd z.1 (by decide))]
    generalize cpI (sI (sI M 510 this to 1) 33 this to (Int32.ofNat st.length)) 31 this 0 34 this (40 * to) 20 = M6 at f5 a5 a3 a4 ⊢
    have e2 : mI M6 4 this 2 = Int32.ofNat st.length := (f5.I (f := 4) (k := 2) rfl this).trans hh.1
    rw [e2, oN_tnc (k := st.length) (by omega)]
    refine ⟨nlt_oN (b := 0) (by omega) (by omega), by rw [f5.L (f := 32) rfl, l32]; omega, by rw [f5.L (f := 34) rfl, l3]; omega, _, rfl, Or.inr rfl, ?_⟩
    have f6 : Fr (3351951982485649274893506249551461531869841455148098344430890360930441007518386744200468574541725856922507964546621512713438470702986642486608438021324800) M (cpI M6 32 this 0 34 this (40 * to + 20) st.length) := Fr.wcp rfl rfl f5
    have b4 : ∀ q, mI (cpI M6 32 this 0 34 this (40 * to + 20) st.length) 34 this q = if 40 * to + 20 ≤ q ∧ q < 40 * to + 20 + st.length then mI M 32 this (q - (40 * to + 20)) else mI M6 34 this q := fun q => by
      rw [mI_cpI, if_pos ⟨rfl, rfl⟩]
      by_cases eq : 40 * to + 20 ≤ q ∧ q < 40 * to + 20 + st.length
      · rw [if_pos eq, if_pos eq, Nat.zero_add, f5.Ia (f := 32) rfl rfl]
      · rw [if_neg eq, if_neg eq]
    have b5 : ∀ f q, f ≠ 34 → mI (cpI M6 32 this 0 34 this (40 * to + 20) st.length) f this q = mI M6 f this q := fun f q hf => by rw [mI_cpI, if_neg (fun z => hf z.1)]
    generalize cpI M6 32 this 0 34 this (40 * to + 20) st.length = M7 at f6 b4 b5 ⊢
    have hT : TbC A (gmt (gc W c) k) (s.1.set to (some (lo, st))) this M7 := by
      refine TbC.new ⟨t1, ⟨l1, l2, l3⟩, t2⟩ hlr.2 hsr.2 (by omega) f6 (by rw [b5 _ _ (by decide), a5, if_pos rfl]) (fun j hj => by rw [b5 _ _ (by decide), a5, if_neg hj]) (by rw [b5 _ _ (by decide), a3, if_pos rfl]) (fun j hj => by rw [b5 _ _ (by decide), a3, if_neg hj]) hlo.2 hst.2.2 (fun q hq => ?_) (fun q hq => ?_) (fun q hq => ?_)
      · have := hlo.2
        rw [b4, if_neg (by omega), a4, if_pos (by omega), show 40 * to + q - 40 * to = q by omega]; exact hlo.1 q hq
      · rw [b4, if_pos (by omega), show 40 * to + 20 + q - (40 * to + 20) = q by omega]; exact hst.1 q hq
      · rw [b4, if_neg (by omega), a4, if_neg (by omega)]
    have f7 : Fr (1170609743081147733776836272505236007549457390772044180188255305546720760419498044066422488271687189095931549238983678733295648635198173819635112708308435374285186632095706644089043539107585165141824059873427089705798755251288424890745871075325575724886045602029717715843723873572838000493809733511633686976695937059375024836175850047733188476429474395613855130959687137129146778833627631657377168262374351694911427930749739875045020090568854540104490977602045343045827853868098855597480749856100648816054493904732477486176213526868547328156893184) M (sI M7 4 this 14 1) := Fr.wI rfl (f6.sub rfl)
    have f8 : Fr (1170609743081147733776836272505236007549457390772044180188255305546720760419498044066422488271687189095931549238983678733295648635198173819635112708308435374285186632095706644089043539107585165141824059873427089705798755251288424890745871075325575724886045602029717715843723873572838000493809733511633686976695937059375024836175850047733188476429474395613855130959687137129146778833627631657373816310391866045636534424500188413513150249113706441760060087241114902038309467123898387022939023999178140851507872392019039015473226884381938890135568384) M7 (sI M7 4 this 14 1) := Fr.wI rfl (Fr.rf _ _)
    exact hQ rfl _ (h.nx f7 (ExI.ex ⟨hT.fr f8, by rw [mI_sI, if_pos ⟨rfl, rfl, rfl⟩]; rfl, (f7.I (f := 4) (k := 10) rfl this).trans h10, (f7.I (f := 4) (k := 15) rfl this).trans h15⟩)) f7
  | some y =>
    obtain ⟨l, t⟩ := y
    rw [e] at hQ hX
    dsimp only at hQ hX
    obtain ⟨⟨y1, y2, y3⟩, y4, y5⟩ := x2 l t e
    have hll : l.length = lo.length := by rw [y2, hlo.2]
    refine itn (show ¬ (1 : Int32) = 0 by decide) ⟨by rw [l2]; exact (vp_oN (by omega)).mpr (by omega), ?_⟩
    rw [y1, hh.1]
    have fail : (37, s) = jnS W s to lo st → w_Checker_breaks this 37 (fun r M => (r = 0 ∨ r = 1) ∧ Q r M) M := fun ej => by
      have hX : (37 : Nat) ≠ 0 → ∀ M', KZx A W w c k br nq nk np nh nr this (ExI A (gmt (gc W c) k) s this) a 37 M' → Fr (18290777235642933340263066757894312617960271730813190315441489149167511881554656938537851379245112329623930456859119980207744509924971465931798636067319302723206041126495416313891305298556018205341000935522298276653105550801381638917904235551962120701344462531714339310058185524575593757715777086119276359010874016552734763065247656995831069944210537431466486421245111517642918419275431744646465879849872906963070850382815443961142972642401663152500938863142420344348585423810912297233422249987158450804810506125297484616769170068467795158368256) M M' → Q 0 M' := by
        unfold jnS at ej
        rw [e] at ej
        dsimp only at ej
        rw [← ej] at hX
        exact hX
      exact k_breaks (r := 37) h.n8 ⟨Or.inl rfl, hX (by decide) _ h.z (Fr.wI rfl (Fr.rf _ _))⟩
    by_cases ct : t.length = st.length
    rotate_left
    · refine itn (fun z => ct ((oN_inj (by omega) (by omega)).mp z)) (fail ?_)
      unfold jnS
      rw [e]
      dsimp only
      rw [if_pos ct]
    refine itp (by rw [ct]) ⟨st.length + 1, ?_⟩
    have go : uns ∉ zJ W t st → ∃ n, w_Checker_joins_L144 this Q n (Int32.ofNat (40 * to)) 0 M := fun hnu => by
      rw [if_neg (fun z => z ct), if_neg hnu] at hQ
      have hQ : ∀ M', KAx A W w c k br nq nk np nh nr this (ExI A (gmt (gc W c) k) (s.1.set to (some (zJ W l lo, zJ W t st)), s.2 || !(decide (l = zJ W l lo) && decide (t = zJ W t st))) this) a lo st kn M' → Fr (1170609743081147733776836272505236007549457390772044180188255305546720760419498044066422488271687189095931549238983678733295648635198173819635112708308435374285186632095706644089043539107585165141824059873427089705798755251288424890745871075325575724886045602029717715843723873572838000493809733511633686976695937059375024836175850047733188476429474395613855130959687137129146778833627631657377168262374351694911427930749739875045020090568854540104490977602045343045827853868098855597480749856100648816054493904732477486176213526868547328156893184) M M' → Q 1 M' := hQ rfl
      -- the stack is put
      have loopS : ∀ m j q M1, st.length - j < m → j ≤ st.length → q.length = t.length → (∀ i, i < j → gk q i = jnK W (gk t i) (gk st i)) → (∀ i, j ≤ i → gk q i = gk t i) → KAx A W w c k br nq nk np nh nr this (ExI A (gmt (gc W c) k) (s.1.set to (some (zJ W l lo, q)), (s.2 || !decide (l = zJ W l lo)) || !decide (t = q)) this) a lo st kn M1 → Fr (1170609743081147733776836272505236007549457390772044180188255305546720760419498044066422488271687189095931549238983678733295648635198173819635112708308435374285186632095706644089043539107585165141824059873427089705798755251288424890745871075325575724886045602029717715843723873572838000493809733511633686976695937059375024836175850047733188476429474395613855130959687137129146778833627631657377168262374351694911427930749739875045020090568854540104490977602045343045827853868098855597480749856100648816054493904732477486176213526868547328156893184) M M1 → w_Checker_joins_L193 this Q m (Int32.ofNat (40 * to)) (Int32.ofNat j) M1 := by
        intro m
        induction m with
        | zero => intro j q M1 z; exact absurd z (by omega)
        | succ m im =>
          intro j q M1 hm hj hq hq1 hq2 hK hf
          obtain ⟨⟨u1, ⟨v1, v2, v3⟩, u2⟩, u14, -, -⟩ := id hK.2.2.1.1
          unfold w_Checker_joins_L193
          rw [hK.ht.1]
          by_cases cj : st.length ≤ j
          · refine itp (le_oN cj (by omega)) (hQ M1 ?_ hf)
            have eq : q = zJ W t st := gk_ext (by rw [hq, zJ_len ct]) (fun i hi => by rw [zJ_len ct] at hi; rw [zJ_gk ct (by omega)]; exact hq1 i (by omega))
            rw [eq] at hK
            rw [show (s.2 || !(decide (l = zJ W l lo) && decide (t = zJ W t st))) = ((s.2 || !decide (l = zJ W l lo)) || !decide (t = zJ W t st)) by rw [Bool.not_and, Bool.or_assoc]]
            exact hK
          have hR : gR (s.1.set to (some (zJ W l lo, q))) to = some (zJ W l lo, q) := by rw [gR_set (by omega), if_pos rfl]
          have hTo : to < (s.1.set to (some (zJ W l lo, q))).length := by rw [List.length_set]; omega
          obtain ⟨-, -, w5⟩ := (u2 to hTo).2 _ _ hR
          obtain ⟨w5a, w5b⟩ := w5 j (by omega)
          obtain ⟨s5a, s5b⟩ := hK.2.1.2.2.1.1 j (by omega)
          rw [e60, show Int32.ofNat (40 * to + 20) + Int32.ofNat j = Int32.ofNat (40 * to + 20 + j) from oN_add _ _, oN_tnc (k := 40 * to + 20 + j) (by omega), oN_tnc (k := j) (by omega), w5a, s5a, v3, hK.2.1.1.2]
          refine itn (nle_oN (by omega) (by omega)) ⟨(vp_oN (by omega)).mpr (by omega), (vp_oN (by omega)).mpr (by omega), c_joinedK hK.1.r hK.1.cl hK.1.na w5b s5b (fun hκ => ?_)⟩
          have eκ : jnK W (gk q j) (gk st j) = jnK W (gk t j) (gk st j) := by rw [hq2 j (Nat.le_refl _)]
          generalize hκe : jnK W (gk q j) (gk st j) = κ at hκ eκ
          refine c_put (by omega) v3 u14 w5a ?_
          rw [show Int32.ofNat j + (1 : Int32) = Int32.ofNat (j + 1) from oN_add _ 1]
          have efl : decide (kC A (gk q j) ≠ kC A κ) = decide (gk q j ≠ κ) := by
            by_cases z : gk q j = κ
            · rw [z]
              simp
            · rw [show decide (gk q j ≠ κ) = true from decide_eq_true z]; exact decide_eq_true (fun z2 => z ((kC_inw w5b hκ hla).mp z2))
          rw [efl, flgK (f := (s.2 || !decide (l = zJ W l lo))) (by omega) (hq2 j (Nat.le_refl _))]
          have f1 : Fr (1170609743081147733776836272505236007549457390772044180188255305546720760419498044066422488271687189095931549238983678733295648635198173819635112708308435374285186632095706644089043539107585165141824059873427089705798755251288424890745871075325575724886045602029717715843723873572838000493809733511633686976695937059375024836175850047733188476429474395613855130959687137129146778833627631657373816310391866045636534424500188413513150249113706441760060087241114902038309467123898387022939023999178140851507872392019039015473226884381938890135568384) M1 (sI M1 4 this 14 (b2 ((s.2 || !decide (l = zJ W l lo)) || !decide (t = q.set j κ)))) := Fr.wI rfl (Fr.rf _ _)
          have f2 : Fr (1170609743081147733776836272505236007549457390772044180188255305546720760419498044066422488271687189095931549238983678733295648635198173819635112708308435374285186632095706644089043539107585165141824059873427089705798755251288424890745871075325575724886045602029717715843723873572838000493809733511633686976695937059375024836175850047733188476429474395613855130959687137129146778833627631657377168262374351694911427930749739875045020090568854540104490977602045343045827853868098855597480749856100648816054493904732477486176213526868547328156893184) M1 (sI (sI M1 4 this 14 (b2 ((s.2 || !decide (l = zJ W l lo)) || !decide (t = q.set j κ)))) 34 this (40 * to + 20 + j) (kC A κ)) := Fr.wIa rfl rfl (f1.sub rfl)
          have hT2 := ((show TbC A (gmt (gc W c) k) (s.1.set to (some (zJ W l lo, q))) this M1 from ⟨u1, ⟨v1, v2, v3⟩, u2⟩).fr f1).setS hlr.2 hsr.2 hTo hR (show j < q.length by omega) hκ
          rw [List.set_set] at hT2
          refine im (j + 1) (q.set j κ) _ (by omega) (by omega) (by rw [List.length_set]; exact hq) (fun i hi => ?_) (fun i hi => ?_) (hK.nx f2 (ExI.ex ⟨hT2, ?_, (f2.I (f := 4) (k := 10) rfl this).trans hK.2.2.1.1.2.2.1, (f2.I (f := 4) (k := 15) rfl this).trans hK.2.2.1.1.2.2.2⟩)) (hf.trans f2)
          · rw [gk_set (by omega)]
            by_cases z : i = j
            · rw [if_pos z, z]; exact eκ
            · rw [if_neg z]; exact hq1 i (by omega)
          · rw [gk_set (by omega), if_neg (by omega)]; exact hq2 i (by omega)
          · rw [mI_sI, if_neg (fun z => absurd z.1 (by decide)), mI_sI, if_pos ⟨rfl, rfl, rfl⟩]
      -- the locals are put
      have loopL : ∀ m j q M1, lr (gmt (gc W c) k) - j < m → j ≤ lr (gmt (gc W c) k) → q.length = l.length → (∀ i, i < j → gk q i = jnK W (gk l i) (gk lo i)) → (∀ i, j ≤ i → gk q i = gk l i) → KAx A W w c k br nq nk np nh nr this (ExI A (gmt (gc W c) k) (s.1.set to (some (q, t)), s.2 || !decide (l = q)) this) a lo st kn M1 → Fr (1170609743081147733776836272505236007549457390772044180188255305546720760419498044066422488271687189095931549238983678733295648635198173819635112708308435374285186632095706644089043539107585165141824059873427089705798755251288424890745871075325575724886045602029717715843723873572838000493809733511633686976695937059375024836175850047733188476429474395613855130959687137129146778833627631657377168262374351694911427930749739875045020090568854540104490977602045343045827853868098855597480749856100648816054493904732477486176213526868547328156893184) M M1 → w_Checker_joins_L144 this Q m (Int32.ofNat (40 * to)) (Int32.ofNat j) M1 := by
        intro m
        induction m with
        | zero => intro j q M1 z; exact absurd z (by omega)
        | succ m im =>
          intro j q M1 hmm hj hq hq1 hq2 hK hf
          obtain ⟨⟨u1, ⟨v1, v2, v3⟩, u2⟩, u14, -, -⟩ := id hK.2.2.1.1
          unfold w_Checker_joins_L144
          refine ⟨w, hK.1.r, ?_⟩
          rw [hK.1.m6, oN_tnc (k := moff W c + k) (by omega), hK.1.lr.1, hK.1.ml (by omega) (by omega)]
          refine ⟨(vp_oN (by omega)).mpr hm, ?_⟩
          by_cases cj : lr (gmt (gc W c) k) ≤ j
          · refine itp (le_oN cj (by omega)) ⟨st.length + 1, ?_⟩
            have eq : q = zJ W l lo := gk_ext (by rw [hq, zJ_len hll]) (fun i hi => by rw [zJ_len hll] at hi; rw [zJ_gk hll (by omega)]; exact hq1 i (by omega))
            rw [eq] at hK
            refine loopS _ 0 t M1 (by omega) (by omega) rfl (fun i hi => absurd hi (by omega)) (fun _ _ => rfl) ?_ hf
            rw [decide_eq_true (rfl : t = t), show (!true) = false from rfl, Bool.or_false]
            exact hK
          have hR : gR (s.1.set to (some (q, t))) to = some (q, t) := by rw [gR_set (by omega), if_pos rfl]
          have hTo : to < (s.1.set to (some (q, t))).length := by rw [List.length_set]; omega
          obtain ⟨-, w4, -⟩ := (u2 to hTo).2 _ _ hR
          obtain ⟨w4a, w4b⟩ := w4 j (by omega)
          have hlol := hlo.2
          obtain ⟨s4a, s4b⟩ := hK.2.1.2.1.1 j (by omega)
          rw [show Int32.ofNat (40 * to) + Int32.ofNat j = Int32.ofNat (40 * to + j) from oN_add _ _, oN_tnc (k := 40 * to + j) (by omega), oN_tnc (k := j) (by omega), w4a, s4a, v3, hK.2.1.1.1]
          refine itn (nle_oN (by omega) (by omega)) ⟨(vp_oN (by omega)).mpr (by omega), (vp_oN (by omega)).mpr (by omega), c_joinedK hK.1.r hK.1.cl hK.1.na w4b s4b (fun hκ => ?_)⟩
          have eκ : jnK W (gk q j) (gk lo j) = jnK W (gk l j) (gk lo j) := by rw [hq2 j (Nat.le_refl _)]
          generalize hκe : jnK W (gk q j) (gk lo j) = κ at hκ eκ
          refine c_put (by omega) v3 u14 w4a ?_
          rw [show Int32.ofNat j + (1 : Int32) = Int32.ofNat (j + 1) from oN_add _ 1]
          have efl : decide (kC A (gk q j) ≠ kC A κ) = decide (gk q j ≠ κ) := by
            by_cases z : gk q j = κ
            · rw [z]
              simp
            · rw [show decide (gk q j ≠ κ) = true from decide_eq_true z]; exact decide_eq_true (fun z2 => z ((kC_inw w4b hκ hla).mp z2))
          rw [efl, flgK (f := s.2) (by omega) (hq2 j (Nat.le_refl _))]
          have f1 : Fr (1170609743081147733776836272505236007549457390772044180188255305546720760419498044066422488271687189095931549238983678733295648635198173819635112708308435374285186632095706644089043539107585165141824059873427089705798755251288424890745871075325575724886045602029717715843723873572838000493809733511633686976695937059375024836175850047733188476429474395613855130959687137129146778833627631657373816310391866045636534424500188413513150249113706441760060087241114902038309467123898387022939023999178140851507872392019039015473226884381938890135568384) M1 (sI M1 4 this 14 (b2 (s.2 || !decide (l = q.set j κ)))) := Fr.wI rfl (Fr.rf _ _)
          have f2 : Fr (1170609743081147733776836272505236007549457390772044180188255305546720760419498044066422488271687189095931549238983678733295648635198173819635112708308435374285186632095706644089043539107585165141824059873427089705798755251288424890745871075325575724886045602029717715843723873572838000493809733511633686976695937059375024836175850047733188476429474395613855130959687137129146778833627631657377168262374351694911427930749739875045020090568854540104490977602045343045827853868098855597480749856100648816054493904732477486176213526868547328156893184) M1 (sI (sI M1 4 this 14 (b2 (s.2 || !decide (l = q.set j κ)))) 34 this (40 * to + j) (kC A κ)) := Fr.wIa rfl rfl (f1.sub rfl)
          have hT2 := ((show TbC A (gmt (gc W c) k) (s.1.set to (some (q, t))) this M1 from ⟨u1, ⟨v1, v2, v3⟩, u2⟩).fr f1).setL hlr.2 hsr.2 hTo hR (show j < q.length by omega) hκ
          rw [List.set_set] at hT2
          refine im (j + 1) (q.set j κ) _ (by omega) (by omega) (by rw [List.length_set]; exact hq) (fun i hi => ?_) (fun i hi => ?_) (hK.nx f2 (ExI.ex ⟨hT2, ?_, (f2.I (f := 4) (k := 10) rfl this).trans hK.2.2.1.1.2.2.1, (f2.I (f := 4) (k := 15) rfl this).trans hK.2.2.1.1.2.2.2⟩)) (hf.trans f2)
          · rw [gk_set (by omega)]
            by_cases z : i = j
            · rw [if_pos z, z]; exact eκ
            · rw [if_neg z]; exact hq1 i (by omega)
          · rw [gk_set (by omega), if_neg (by omega)]; exact hq2 i (by omega)
          · rw [mI_sI, if_neg (fun z => absurd z.1 (by decide)), mI_sI, if_pos ⟨rfl, rfl, rfl⟩]
      have es : s.1.set to (some (l, t)) = s.1 := by
        refine List.ext_getElem (by rw [List.length_set]) (fun i h1 h2 => ?_)
        rw [List.getElem_set]
        by_cases z : to = i
        · subst z
          rw [if_pos rfl]
          unfold gR at e
          rw [List.getD_eq_getElem?_getD, List.getElem?_eq_getElem h2] at e
          exact e.symm
        · rw [if_neg z]
      refine ⟨lr (gmt (gc W c) k) + 1, loopL _ 0 l M (by omega) (by omega) rfl (fun i hi => absurd hi (by omega)) (fun _ _ => rfl) ?_ (Fr.rf _ _)⟩
      rw [es, decide_eq_true (rfl : l = l), show (!true) = false from rfl, Bool.or_false]
      exact h
    have loop : ∀ m j, st.length - j < m → j ≤ st.length → (∀ i, i < j → jnK W (gk t i) (gk st i) ≠ uns) → w_Checker_joins_L95 this Q m (Int32.ofNat (40 * to)) (Int32.ofNat j) M := by
      intro m
      induction m with
      | zero => intro j z; exact absurd z (by omega)
      | succ m im =>
        intro j hmm hj hn
        unfold w_Checker_joins_L95
        rw [hh.1]
        by_cases cj : st.length ≤ j
        · refine itp (le_oN cj (by omega)) (go (fun z => ?_))
          obtain ⟨i, hi, e2⟩ := (zJ_mem ct).mp z
          exact hn i (by omega) e2
        obtain ⟨w5a, w5b⟩ := y5 j (by omega)
        obtain ⟨s5a, s5b⟩ := hst.1 j (by omega)
        rw [e60, show Int32.ofNat (40 * to + 20) + Int32.ofNat j = Int32.ofNat (40 * to + 20 + j) from oN_add _ _, oN_tnc (k := 40 * to + 20 + j) (by omega), oN_tnc (k := j) (by omega), w5a, s5a, l3, l32]
        refine itn (nle_oN (by omega) (by omega)) ⟨(vp_oN (by omega)).mpr (by omega), (vp_oN (by omega)).mpr (by omega), c_joinedK h.1.r h.1.cl h.1.na w5b s5b (fun hκ => ?_)⟩
        by_cases cu : jnK W (gk t j) (gk st j) = uns
        · refine itp (by rw [cu]; rfl) (fail ?_)
          unfold jnS
          rw [e]
          dsimp only
          rw [if_neg (fun z => z ct), if_pos ((zJ_mem ct).mpr ⟨j, by omega, cu⟩)]
        · refine itn (fun z => cu ?_) ?_
          · have z1 := (kC_eq (n := -2) hκ hla (by omega)).mp (z.trans (show (-2 : Int32) = Int32.ofInt (-2) from rfl))
            rcases hκ.rg with q | q
            · rw [z1] at q; cases q
            · exact kd_ext z1 q.1
          · rw [show Int32.ofNat j + (1 : Int32) = Int32.ofNat (j + 1) from oN_add _ 1]
            exact im (j + 1) (by omega) (by omega) (fun i hi => by
              by_cases z : i = j
              · rw [z]; exact cu
              · exact hn i (by omega))
    exact loop _ 0 (by omega) (by omega) (fun i hi => absurd hi (by omega))
end
