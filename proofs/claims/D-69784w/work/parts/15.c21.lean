/-! B: what stands between the twin's lines -/
/-- new classes and fields in the twin: not linked, zero -/
def tNw (c0 : Nat) (W : List Cls) (w : Nat) (M : Mem) : Prop := ∀ j, c0 ≤ j → j < W.length → (mI M 137 w j = 0 ∧ mI M 138 w j = 0) ∧ ∀ k, k < (gc W j).2.2.2.2.1.length → mI M 143 w (8 * j + k) = 0
theorem tNw.fr {c0 : Nat} {W : List Cls} {w : Nat} {M M' : Mem} {F : Nat} (h : tNw c0 W w M) (hf : Fr F M M') (h1 : F.testBit 137 = false := by rfl) (h2 : F.testBit 138 = false := by rfl) (h3 : F.testBit 143 = false := by rfl) : tNw c0 W w M' := fun j a b => ⟨⟨(hf.Ia rfl h1 w j).trans (h j a b).1.1, (hf.Ia rfl h2 w j).trans (h j a b).1.2⟩, fun k hk => (hf.Ia rfl h3 w _).trans ((h j a b).2 k hk)⟩
theorem tNw.addC {c0 : Nat} {W : List Cls} {w : Nat} {cl : Cls} {M M' : Mem} (h : tNw c0 W w M) (lo : LoT w W.length M M') (h8 : ∀ j, j < W.length → (gc W j).2.2.2.2.1.length ≤ 8) (hcl : cl.2.2.2.2.1 = []) (h0 : mI M' 137 w W.length = 0 ∧ mI M' 138 w W.length = 0) : tNw c0 (W ++ [cl]) w M' := by
  intro j a b
  rw [List.length_append, List.length_singleton] at b
  by_cases q : j < W.length
  · rw [gc_snoc, if_pos q]
    refine ⟨⟨((lo.1 137 rfl).1 w j (Or.inr q)).trans (h j a q).1.1, ((lo.1 138 rfl).1 w j (Or.inr q)).trans (h j a q).1.2⟩, fun k hk => ((lo.1 143 rfl).1 w _ (Or.inr ?_)).trans ((h j a q).2 k hk)⟩
    have := h8 j q
    show 8 * j + k < 8 * W.length
    omega
  · have e : j = W.length := by omega
    subst e
    rw [gc_snoc, if_neg q, if_pos rfl, hcl]
    exact ⟨h0, fun k hk => absurd hk (by simp)⟩
theorem tNw.addF {c0 c : Nat} {W : List Cls} {w : Nat} {fl : Fld} {M M' : Mem} (h : tNw c0 W w M) (hc : c < W.length) (e7 : ∀ k, mI M' 137 w k = mI M 137 w k) (e8 : ∀ k, mI M' 138 w k = mI M 138 w k) (e3 : ∀ k, mI M' 143 w k = if k = 8 * c + (gc W c).2.2.2.2.1.length then 0 else mI M 143 w k) : tNw c0 (addF W c fl) w M' := by
  intro j a b
  rw [addF_len] at b
  refine ⟨⟨(e7 j).trans (h j a b).1.1, (e8 j).trans (h j a b).1.2⟩, fun k hk => ?_⟩
  rw [e3]
  by_cases q : 8 * j + k = 8 * c + (gc W c).2.2.2.2.1.length
  · rw [if_pos q]
  · rw [if_neg q]
    refine (h j a b).2 k ?_
    rw [gc_addF hc] at hk
    by_cases q2 : j = c
    · rw [if_pos q2] at hk
      have hk : k < ((gc W c).2.2.2.2.1 ++ [fl]).length := hk
      rw [List.length_append, List.length_singleton] at hk
      rw [q2] at q ⊢; omega
    · rw [if_neg q2] at hk; exact hk
theorem tNw.addM {c0 c : Nat} {W : List Cls} {w : Nat} {m : Mth} {M : Mem} (h : tNw c0 W w M) (hc : c + 1 = W.length) : tNw c0 (addM W m) w M := by
  intro j a b
  rw [addM_len] at b
  refine ⟨(h j a b).1, fun k hk => (h j a b).2 k ?_⟩
  rw [(gc_e hc j).2.2.2.2.1] at hk; exact hk
/-- what belongs to a mode: between members, or in a method -/
def LM (A : List Nm) (S : List Sg) (w : Nat) (br : Int32) (c0 q0 nl0 nq nl nf nk : Nat) (NL : List Nine) (pl : Nat) (st : PSt) (M : Mem) : Prop :=
  (st.1 ≤ 1 ∧ TW A S st.2.1 w br 0 nq nl nq nl nf nk M ∧ XLb M ∧ (q0 = nq ∧ nl0 = nl) ∧ (st.1 = 1 → mI M 11 0 53 = Int32.ofNat (st.2.1.length - 1) ∧ c0 < st.2.1.length)) ∨
  ((st.1 = 2 ∨ st.1 = 3) ∧ c0 < st.2.1.length ∧ TW A S st.2.1 w br 1 q0 nl0 nq nl nf nk M ∧ TP A S w (st.2.1.length - 1) (12 * (st.2.1.length - 1) + (gc st.2.1 (st.2.1.length - 1)).2.2.2.2.2.length) q0 nl0 nl nf nk st.2.2 NL M ∧ (gc st.2.1 (st.2.1.length - 1)).2.2.2.2.2.length < 12 ∧ NLk st.2.2 NL ∧ (nq = q0 + st.2.2.2.1.length ∧ nl = nl0 + pkS st.2.2.2.1) ∧ (∀ x ∈ NL, x.2.2.2.1 ≤ pl) ∧ (st.1 = 2 → st.2.2.1.2.2.2.2.2.2 = ([], []) ∧ st.2.2.2 = ([], [], [], none) ∧ NL = []))
/-- between lines -/
def LSt (G : List Sl) (US : UST) (A : List Nm) (w : Nat) (br : Int32) (z : Nat × Nat × Nat × Nat × Nat × Nat) (K : Nat × Nat × Nat × Nat) (R pl : Nat) (st : PSt) (M0 M : Mem) : Prop :=
  ∃ S q0 nl0 nq nl nf nk NL, (TV US A S M ∧ KR G w z.1 z.2.1 z.2.2.1 z.2.2.2.1 z.2.2.2.2.1 M0 M ∧ mI M 11 0 52 = Int32.ofNat st.1 ∧ rl M sFr ≤ 20000 ∧ tNw z.1 st.2.1 w M ∧ z.1 ≤ st.2.1.length) ∧ Bd K R nq nl nf nk NL st.2.2 ∧ (z.2.1 ≤ q0 ∧ z.2.2.1 ≤ nl0 ∧ z.2.2.2.1 ≤ nf ∧ z.2.2.2.2.1 ≤ nk) ∧ LM A S w br z.1 q0 nl0 nq nl nf nk NL pl st M
theorem Bd.less {K : Nat × Nat × Nat × Nat} {R R' nq nl nf nk : Nat} {NL : List Nine} {p : PM} (h : Bd K R nq nl nf nk NL p) (hR : R' ≤ R) : Bd K R' nq nl nf nk NL p := by
  obtain ⟨a, b, c, d, e, f⟩ := h
  exact ⟨by omega, by omega, by omega, by omega, by omega, by omega⟩
theorem Bd.nil {K : Nat × Nat × Nat × Nat} {R nq nl nf nk : Nat} {NL : List Nine} {p : PM} (h : Bd K R nq nl nf nk NL p) (m : Mth) : Bd K R nq nl nf nk [] (m, [], [], [], none) := by
  obtain ⟨a, b, c, d, e, f⟩ := h
  exact ⟨a, b, c, d, by show 0 + 2 * R ≤ 3800; omega, by show 0 + R ≤ 3800; omega⟩
theorem LM.fr {G : List Sl} {A : List Nm} {S : List Sg} {w : Nat} {br : Int32} {c0 q0 nl0 nq nl nf nk : Nat} {NL : List Nine} {pl : Nat} {st : PSt} {M M' : Mem} {F : Nat} (h : LM A S w br c0 q0 nl0 nq nl nf nk NL pl st M) (hx : Gx G w) (hf : Fr F M M') (hS : sOk F = true := by rfl) (hP : pOk F = true := by rfl) (hT : tOk F = true := by rfl) (h9 : F.testBit (5000 + 109) = false := by rfl) (h53 : F.testBit (cd 11 53) = false := by rfl) (h60 : F.testBit (cd 11 60) = false := by rfl) (h64 : F.testBit (cd 11 64) = false := by rfl) : LM A S w br c0 q0 nl0 nq nl nf nk NL pl st M' := by
  rcases h with ⟨a, b, c, d, e⟩ | ⟨a, b, c, d, e⟩
  · exact Or.inl ⟨a, b.fr hf hx.1 hx.2.2.2.1 hS hT, c.fr hf hx.1 hx.2.2.2.2.1 hS h9, d, fun q => ⟨(hf.I h53 0).trans (e q).1, (e q).2⟩⟩
  · have xl := XL_fr hf hx.1 hx.2.2.2.2.1 hS
    exact Or.inr ⟨a, b, c.fr hf hx.1 hx.2.2.2.1 hS hT, ⟨d.1.fr hf hx.1 hx.2.2.2.1 hS hP, d.2.1.of (hf.I h60 0) xl, d.2.2.of (hf.I h64 0) xl⟩, e⟩
theorem LSt.s51 {G : List Sl} {US : UST} {A : List Nm} {w : Nat} {br : Int32} {z : Nat × Nat × Nat × Nat × Nat × Nat} {K : Nat × Nat × Nat × Nat} {R pl : Nat} {st : PSt} {M0 M : Mem} {v : Int32} (h : LSt G US A w br z K R pl st M0 M) (hx : Gx G w) : LSt G US A w br z K R pl st M0 (sI M 11 0 51 v) := by
  obtain ⟨S, q0, nl0, nq, nl, nf, nk, NL, ⟨a1, a2, a3, a4, a5, a6⟩, b, c, d⟩ := h
  have hf : Fr (4451597641046097242080964295410352959469136803183100691426390983137447307288249322879394111001208155152503632917227533398918709556667863975331499494914798178803157375621006922652718901728600405688623992009061334134386436140989095224157597830699354988124677650821169777533783179174355714836938522693893686145986691025815397157501870109129341896741467909621374335008342600103267247128843621298297172166030687278724029308698221072182865185870148824146244292016358101307462648759379017652516923523111949675505487025988136902618755101614564042126950472109042704778433176770706987995547834572552021163889735661937150081237875641726816673815447402048729628152562373433200078715189084617777266973588873042218940009658001563443031527272093057718291113534039634366974666849229374468981401571672979004732238073576038248458324677591148577664055409425168339707079052668222558361657049398433122829505075171160315267529124689753798460549855899666849899318682885206640475806539612126591999541248) M (sI M 11 0 51 v) := Fr.wI rfl (Fr.rf _ _)
  exact ⟨S, q0, nl0, nq, nl, nf, nk, NL, ⟨a1.fr hf hx, a2.fr hf hx.1 hx.2.2.2.1, (hf.I (f := 11) (k := 52) rfl 0).trans a3, by rw [rl_keep hf a2.1.1 hx.2.2.2.2.2]; exact a4, a5.fr hf, a6⟩, b, c, d.fr hx hf⟩
/-- at the end of a line -/
theorem ct_j171 {Q X : Mem → Prop} {M : Mem} (h51 : mI M 11 0 51 = Int32.ofNat 99) (hQ : Q M) : w_Model_takeLine_j171 0 Q X M := by
  unfold w_Model_takeLine_j171
  rw [h51]
  exact itp (by decide) hQ
theorem ct_j171r {G : List Sl} {US : UST} {A : List Nm} {w r : Nat} {z : Nat × Nat × Nat × Nat × Nat × Nat} {L : List Tok} {M0 M : Mem} {Q X : Mem → Prop} (h : JE G US A w z M0 M) (hx : Gx G w) (hp : PLc L M) (h51 : mI M 11 0 51 = Int32.ofNat r) (hr : r < 99) (hrow : rl M sFr ≤ 20000) (hX : ∀ M', ThT (r, (hd L).2.2.2) M' → JE G US A w z M0 M' → rl M' sFr ≤ 20000 → X M') : w_Model_takeLine_j171 0 Q X M := by
  unfold w_Model_takeLine_j171
  have e0 : (0 : Int32).toNatClampNeg = 0 := rfl
  rw [h51, e0, hp.1]
  refine itn (nle_oN (a := 99) (by omega) (by omega)) ⟨(vp_oN (a := 0) (by omega)).mpr hp.2, ?_⟩
  have hTG : TG G M := by obtain ⟨S, -, k, -⟩ := h; exact k.1.1
  exact mf_w_Model_refuse (Q := fun _ => False) (X := fun M' => ThT (r, (hd L).2.2.2) M') (fun M' hf hp => hp.elim) (fun M' hf hp => hX M' hp (h.fr hx hf) (by rw [rl_keep hf hTG hx.2.2.2.2.2]; exact hrow)) (ct_refuse (fun M' a => a))
