/-! KINDS in the works: the table; the state comes to an instruction -/
def TbC (A : List Nm) (x : Mth) (R : Tr) (this : Nat) (M : Mem) : Prop := R.length = (co x).length ∧ (mL M 510 this = 80 ∧ mL M 33 this = 80 ∧ mL M 34 this = 3200) ∧ ∀ i, i < R.length → mI M 510 this i = b2 (gR R i).isSome ∧ ∀ lo st, gR R i = some (lo, st) → (mI M 33 this i = Int32.ofNat st.length ∧ lo.length = lr x ∧ st.length ≤ sr x) ∧ (∀ k, k < lo.length → mI M 34 this (40 * i + k) = kC A (gk lo k) ∧ kwf A (co x) (gk lo k)) ∧ ∀ k, k < st.length → mI M 34 this (40 * i + 20 + k) = kC A (gk st k) ∧ kwf A (co x) (gk st k)
/-- while it infers -/
def ExI (A : List Nm) (x : Mth) (s : Ti) (this : Nat) (M : Mem) : Prop := TbC A x s.1 this M ∧ mI M 4 this 14 = b2 s.2 ∧ mI M 4 this 10 = 1 ∧ mI M 4 this 15 = Int32.ofNat (co x).length
theorem gR_set {R : Tr} {i j : Nat} {o : Option (List Kd × List Kd)} (h : i < R.length) : gR (R.set i o) j = if j = i then o else gR R j := by
  unfold gR
  rw [List.getD_eq_getElem?_getD, List.getElem?_set]
  by_cases e : i = j
  · rw [if_pos e, if_pos h, if_pos e.symm]; rfl
  · rw [if_neg e, if_neg (fun q => e q.symm), List.getD_eq_getElem?_getD]
theorem TbC.fr {A : List Nm} {x : Mth} {R : Tr} {this S : Nat} {M M' : Mem} (h : TbC A x R this M) (hf : Fr S M M') (hS : okF S [510, 33, 34, 5510, 5033, 5034] = true := by rfl) : TbC A x R this M' := by
  have o := fun {b : Nat} (hb : b ∈ [510, 33, 34, 5510, 5033, 5034]) => okF_in hS hb
  obtain ⟨h1, ⟨l1, l2, l3⟩, h2⟩ := h
  refine ⟨h1, ⟨(hf.L (f := 510) (o (by simp)) this).trans l1, (hf.L (f := 33) (o (by simp)) this).trans l2, (hf.L (f := 34) (o (by simp)) this).trans l3⟩, fun i hi => ⟨(hf.Ia (f := 510) rfl (o (by simp)) this i).trans (h2 i hi).1, fun lo st e => ?_⟩⟩
  obtain ⟨⟨a1, a2, a3⟩, a4, a5⟩ := (h2 i hi).2 lo st e
  exact ⟨⟨(hf.Ia (f := 33) rfl (o (by simp)) this i).trans a1, a2, a3⟩, fun k hk => ⟨(hf.Ia (f := 34) rfl (o (by simp)) this _).trans (a4 k hk).1, (a4 k hk).2⟩, fun k hk => ⟨(hf.Ia (f := 34) rfl (o (by simp)) this _).trans (a5 k hk).1, (a5 k hk).2⟩⟩
theorem ExI.ex {A : List Nm} {x : Mth} {s : Ti} {this : Nat} {M : Mem} (h : ExI A x s this M) : EX (ExI A x s this) M := ⟨h, fun _ _ hf h => ⟨h.1.fr hf, (hf.I (f := 4) (k := 14) rfl this).trans h.2.1, (hf.I (f := 4) (k := 10) rfl this).trans h.2.2.1, (hf.I (f := 4) (k := 15) rfl this).trans h.2.2.2⟩⟩
section
variable {A : List Nm} {W : List Cls} {w c k this : Nat} {br : Int32} {nq nk np nh nr a : Nat} {lo st : List Kd} {kn : Bool} {M M' : Mem} {Q : Int32 → Mem → Prop} {Q' : Mem → Prop} {Ex Ex2 : Mem → Prop} {x : Mth} {R : Tr} {s : Ti}
theorem KAx.nx (h : KAx A W w c k br nq nk np nh nr this Ex a lo st kn M) (hf : Fr (1170609743081147733776836272505236007549457390772044180188255305546720760419498044066422488271687189095931549238983678733295648635198173819635112708308435374285186632095706644089043539107585165141824059873427089705798755251288424890745871075325575724886045602029717715843723873572838000493809733511633686976695937059375024836175850047733188476429474395613855130959687137129146778833627631657377168262374351694911427930749739875045020090568854540104490977602045343045827853868098855597480749856100648816054493904732477486176213526868547328156893184) M M') (hE : EX Ex2 M') : KAx A W w c k br nq nk np nh nr this Ex2 a lo st kn M' := by
  obtain ⟨h1, ⟨⟨s1, s2⟩, ⟨s3, s4⟩, ⟨s5, s6, s7⟩, s8, s9⟩, -, h4, h5⟩ := h
  exact ⟨h1.fr hf, ⟨⟨(hf.L (f := 31) rfl this).trans s1, (hf.L (f := 32) rfl this).trans s2⟩, ⟨fun i hi => ⟨(hf.Ia (f := 31) rfl rfl this i).trans (s3 i hi).1, (s3 i hi).2⟩, s4⟩, ⟨fun i hi => ⟨(hf.Ia (f := 32) rfl rfl this i).trans (s5 i hi).1, (s5 i hi).2⟩, (hf.I (f := 4) (k := 2) rfl this).trans s6, s7⟩, (hf.I (f := 4) (k := 3) rfl this).trans s8, (hf.I (f := 4) (k := 8) rfl this).trans s9⟩, hE, (hf.I (f := 4) (k := 7) rfl this).trans h4, h5⟩
theorem c_put {p : Nat} {f : Bool} {u v : Int32} (hp : p < 3200) (hl : mL M 34 this = 3200) (h14 : mI M 4 this 14 = b2 f) (hu : mI M 34 this p = u) (hQ : Q' (sI (sI M 4 this 14 (b2 (f || decide (u ≠ v)))) 34 this p v)) : w_Checker_put this (Int32.ofNat p) v Q' M := by
  unfold w_Checker_put w_Checker_put_j20
  rw [oN_tnc (k := p) (by omega), hu, h14, hl]
  refine ⟨(vp_oN (by omega)).mpr hp, ?_⟩
  by_cases e : u = v
  · rw [decide_eq_false (fun q => q e), Bool.or_false] at hQ
    refine itp e ?_
    rw [show (b2 f ||| (0 : Int32)) = b2 f by cases f <;> rfl]
    exact ⟨by cases f <;> simp [b2], by show vp_in _ (mL M 34 this); rw [hl]; exact (vp_oN (by omega)).mpr hp, hQ⟩
  · rw [decide_eq_true e, Bool.or_true] at hQ
    refine itn e ?_
    rw [show (b2 f ||| (1 : Int32)) = b2 true by cases f <;> rfl]
    exact ⟨Or.inr rfl, by show vp_in _ (mL M 34 this); rw [hl]; exact (vp_oN (by omega)).mpr hp, hQ⟩
/-- one local of the table is another one -/
theorem TbC.setL {i j : Nat} {l t : List Kd} {κ : Kd} (h : TbC A x R this M) (hr : lr x ≤ 20) (hsr : sr x ≤ 20) (hi : i < R.length) (hR : gR R i = some (l, t)) (hj : j < l.length) (hκ : kwf A (co x) κ) : TbC A x (R.set i (some (l.set j κ, t))) this (sI M 34 this (40 * i + j) (kC A κ)) := by
  obtain ⟨h1, hl, h2⟩ := h
  refine ⟨by rw [List.length_set]; exact h1, hl, fun i' hi' => ?_⟩
  rw [List.length_set] at hi'
  have r34 : ∀ q, q ≠ 40 * i + j → mI (sI M 34 this (40 * i + j) (kC A κ)) 34 this q = mI M 34 this q := fun q hq => by rw [mI_sI, if_neg (fun z => hq z.2.2)]
  have rr : ∀ f q, f ≠ 34 → mI (sI M 34 this (40 * i + j) (kC A κ)) f this q = mI M f this q := fun f q hf => by rw [mI_sI, if_neg (fun z => hf z.1)]
  have hj2 : l.length = lr x := ((h2 i hi).2 l t hR).1.2.1
  rw [gR_set hi, rr 510 _ (by decide)]
  by_cases e : i' = i
  · subst e
    rw [if_pos rfl]
    obtain ⟨⟨a1, a2, a3⟩, a4, a5⟩ := (h2 i' hi').2 l t hR
    refine ⟨by rw [(h2 i' hi').1, hR]; rfl, fun lo st e2 => ?_⟩
    cases e2
    refine ⟨⟨by rw [rr 33 _ (by decide)]; exact a1, by rw [List.length_set]; exact a2, a3⟩, fun q hq => ?_, fun q hq => ?_⟩
    · rw [List.length_set] at hq
      rw [gk_set hj]
      by_cases eq : q = j
      · rw [if_pos eq, eq, mI_sI, if_pos ⟨rfl, rfl, rfl⟩]; exact ⟨rfl, hκ⟩
      · rw [if_neg eq, r34 _ (by omega)]; exact a4 q hq
    · rw [r34 _ (by omega)]; exact a5 q hq
  · rw [if_neg e]
    refine ⟨(h2 i' hi').1, fun lo st e2 => ?_⟩
    obtain ⟨⟨a1, a2, a3⟩, a4, a5⟩ := (h2 i' hi').2 lo st e2
    have hs : i' < i ∨ i < i' := by omega
    refine ⟨⟨by rw [rr 33 _ (by decide)]; exact a1, a2, a3⟩, fun q hq => ?_, fun q hq => ?_⟩
    · rw [r34 _ (by omega)]; exact a4 q hq
    · obtain ⟨b1, b2'⟩ := a5 q hq
      by_cases ez : 40 * i' + 20 + q = 40 * i + j
      · exact absurd ez (by omega)
      · rw [r34 _ ez]; exact ⟨b1, b2'⟩
theorem TbC.setS {i j : Nat} {l t : List Kd} {κ : Kd} (h : TbC A x R this M) (hr : lr x ≤ 20) (hsr : sr x ≤ 20) (hi : i < R.length) (hR : gR R i = some (l, t)) (hj : j < t.length) (hκ : kwf A (co x) κ) : TbC A x (R.set i (some (l, t.set j κ))) this (sI M 34 this (40 * i + 20 + j) (kC A κ)) := by
  obtain ⟨h1, hl, h2⟩ := h
  refine ⟨by rw [List.length_set]; exact h1, hl, fun i' hi' => ?_⟩
  rw [List.length_set] at hi'
  have r34 : ∀ q, q ≠ 40 * i + 20 + j → mI (sI M 34 this (40 * i + 20 + j) (kC A κ)) 34 this q = mI M 34 this q := fun q hq => by rw [mI_sI, if_neg (fun z => hq z.2.2)]
  have rr : ∀ f q, f ≠ 34 → mI (sI M 34 this (40 * i + 20 + j) (kC A κ)) f this q = mI M f this q := fun f q hf => by rw [mI_sI, if_neg (fun z => hf z.1)]
  have hj2 : t.length ≤ sr x := ((h2 i hi).2 l t hR).1.2.2
  rw [gR_set hi, rr 510 _ (by decide)]
  by_cases e : i' = i
  · subst e
    rw [if_pos rfl]
    obtain ⟨⟨a1, a2, a3⟩, a4, a5⟩ := (h2 i' hi').2 l t hR
    refine ⟨by rw [(h2 i' hi').1, hR]; rfl, fun lo st e2 => ?_⟩
    cases e2
    refine ⟨⟨by rw [rr 33 _ (by decide), List.length_set]; exact a1, a2, by rw [List.length_set]; exact a3⟩, fun q hq => ?_, fun q hq => ?_⟩
    · rw [r34 _ (by omega)]; exact a4 q hq
    · rw [List.length_set] at hq
      rw [gk_set hj]
      by_cases eq : q = j
      · rw [if_pos eq, eq, mI_sI, if_pos ⟨rfl, rfl, rfl⟩]; exact ⟨rfl, hκ⟩
      · rw [if_neg eq, r34 _ (by omega)]; exact a5 q hq
  · rw [if_neg e]
    refine ⟨(h2 i' hi').1, fun lo st e2 => ?_⟩
    obtain ⟨⟨a1, a2, a3⟩, a4, a5⟩ := (h2 i' hi').2 lo st e2
    have hs : i' < i ∨ i < i' := by omega
    refine ⟨⟨by rw [rr 33 _ (by decide)]; exact a1, a2, a3⟩, fun q hq => ?_, fun q hq => ?_⟩
    · rw [r34 _ (by omega)]; exact a4 q hq
    · rw [r34 _ (by omega)]; exact a5 q hq
/-- a row of the table is written -/
theorem TbC.new {i : Nat} {l t : List Kd} (h : TbC A x R this M) (hr : lr x ≤ 20) (hsr : sr x ≤ 20) (hi : i < R.length) (hf : Fr (3351951982485649274893506249551461531869841455148098344430890360930441007518386744200468574541725856922507964546621512713438470702986642486608438021324800) M M') (e5 : mI M' 510 this i = 1) (o5 : ∀ j, j ≠ i → mI M' 510 this j = mI M 510 this j) (e3 : mI M' 33 this i = Int32.ofNat t.length) (o3 : ∀ j, j ≠ i → mI M' 33 this j = mI M 33 this j) (hl : l.length = lr x) (ht : t.length ≤ sr x) (eL : ∀ q, q < l.length → mI M' 34 this (40 * i + q) = kC A (gk l q) ∧ kwf A (co x) (gk l q)) (eS : ∀ q, q < t.length → mI M' 34 this (40 * i + 20 + q) = kC A (gk t q) ∧ kwf A (co x) (gk t q)) (o4 : ∀ q, q < 40 * i ∨ 40 * i + 40 ≤ q → mI M' 34 this q = mI M 34 this q) : TbC A x (R.set i (some (l, t))) this M' := by
  obtain ⟨h1, ⟨l1, l2, l3⟩, h2⟩ := h
  refine ⟨by rw [List.length_set]; exact h1, ⟨(hf.L (f := 510) rfl this).trans l1, (hf.L (f := 33) rfl this).trans l2, (hf.L (f := 34) rfl this).trans l3⟩, fun i' hi' => ?_⟩
  rw [List.length_set] at hi'
  rw [gR_set hi]
  by_cases e : i' = i
  · subst e
    rw [if_pos rfl]
    refine ⟨e5, fun lo st e2 => ?_⟩
    cases e2
    exact ⟨⟨e3, hl, ht⟩, eL, eS⟩
  · rw [if_neg e, o5 i' e]
    refine ⟨(h2 i' hi').1, fun lo st e2 => ?_⟩
    obtain ⟨⟨a1, a2, a3⟩, a4, a5⟩ := (h2 i' hi').2 lo st e2
    have hs : i' < i ∨ i < i' := by omega
    refine ⟨⟨by rw [o3 i' e]; exact a1, a2, a3⟩, fun q hq => ?_, fun q hq => ?_⟩
    · rw [o4 _ (by omega)]; exact a4 q hq
    · rw [o4 _ (by omega)]; exact a5 q hq
end
