/-! THE OPERATION least: what trials meet and find together, in the twin -/
theorem n32 {c : Nat} (h : c < 2147483648) : (Int32.ofNat c).toInt64 = Int64.ofNat c := by
  apply Int64.toInt_inj.mp
  rw [Int32.toInt_toInt64, oN_toInt h, Int64.toInt_ofNat_of_lt (by simp; omega)]
theorem bs_n {N c : Nat} (h : N < 4294967296) : bs (Int64.ofNat N) c = N.testBit c := by
  unfold bs
  rw [show (Int64.ofNat N).toBitVec = BitVec.ofNat 64 N from rfl, BitVec.getLsbD_ofNat]
  by_cases c1 : c < 64
  · rw [decide_eq_true c1, Bool.true_and]
  · rw [decide_eq_false c1, Bool.false_and]
    exact (Nat.testBit_lt_two_pow (Nat.lt_of_lt_of_le h (Nat.le_trans (by decide : 4294967296 ≤ 2 ^ 64) (Nat.pow_le_pow_right (by decide) (by omega))))).symm
theorem or32 (a b : Nat) : Int32.ofNat a ||| Int32.ofNat b = Int32.ofNat (a ||| b) := by
  apply Int32.toBitVec_inj.mp
  rw [Int32.toBitVec_or]
  show BitVec.ofNat 32 a ||| BitVec.ofNat 32 b = BitVec.ofNat 32 (a ||| b)
  apply BitVec.eq_of_getLsbD_eq
  intro i hi
  rw [BitVec.getLsbD_or, BitVec.getLsbD_ofNat, BitVec.getLsbD_ofNat, BitVec.getLsbD_ofNat, Nat.testBit_or, decide_eq_true hi, Bool.true_and, Bool.true_and, Bool.true_and]
/-- breaks found, as a number -/
noncomputable def fnN (L : Trl) : Nat → Nat
  | 0 => 0
  | k + 1 => fnN L k ||| (if fnB L (Int32.ofNat (2 ^ k)) = true then 2 ^ k else 0)
theorem fnN_lt (L : Trl) : ∀ k, fnN L k < 2 ^ k
  | 0 => Nat.zero_lt_one
  | k + 1 => by
    unfold fnN
    refine Nat.or_lt_two_pow (Nat.lt_of_lt_of_le (fnN_lt L k) (Nat.pow_le_pow_right (by decide) (by omega))) ?_
    split
    · exact Nat.pow_lt_pow_right (by decide) (by omega)
    · exact Nat.two_pow_pos _
theorem fnK_eq (L : Trl) : ∀ k, fnK L k = Int32.ofNat (fnN L k)
  | 0 => rfl
  | k + 1 => by
    unfold fnK fnN
    rw [fnK_eq L k, ← or32]
    congr 1
    split <;> rfl
theorem fnN_bit (L : Trl) : ∀ k c, (fnN L k).testBit c = (decide (c < k) && fnB L (Int32.ofNat (2 ^ c)))
  | 0, c => by
    rw [decide_eq_false (by omega), Bool.false_and]
    exact Nat.zero_testBit c
  | k + 1, c => by
    unfold fnN
    rw [Nat.testBit_or, fnN_bit L k c]
    by_cases e : c = k
    · rw [e, decide_eq_false (Nat.lt_irrefl k), Bool.false_and, Bool.false_or, decide_eq_true (Nat.lt_succ_self k), Bool.true_and]
      cases fnB L (Int32.ofNat (2 ^ k)) with
      | true => rw [if_pos rfl, Nat.testBit_two_pow_self]
      | false => rw [if_neg (by decide)]; exact Nat.zero_testBit k
    · have z : (if fnB L (Int32.ofNat (2 ^ k)) = true then 2 ^ k else 0).testBit c = false := by
        split
        · exact Nat.testBit_two_pow_of_ne (fun q => e q.symm)
        · exact Nat.zero_testBit c
      rw [z, Bool.or_false]
      by_cases h : c < k
      · rw [decide_eq_true h, decide_eq_true (show c < k + 1 by omega)]
      · rw [decide_eq_false h, decide_eq_false (show ¬ c < k + 1 by omega)]
def tg (f : Trl → Int64) (T : List Trl) (k : Nat) : Nat → Int64
  | 0 => 0
  | n + 1 => if n = k then tg f T k n else tg f T k n ||| f (gTr T n)
noncomputable def mb (L : Trl) : Int64 := if metN L ≤ 0 then 0 else (1 : Int64) <<< ((metN L).toInt64 &&& 63)
noncomputable def fb (L : Trl) : Int64 := (fnK L 8).toInt64
section
variable {G : List Sl} {U1 : List (List Kd × Kd)} {BB A : List Nm} {S : List Sg} {B F t b : Nat} {T : List Trl} {L : Trl} {M M' M0 : Mem} {Q : Int32 → Mem → Prop} {R : Int64 → Mem → Prop} {X : Mem → Prop} {a c d v v1 v2 : Int32} {f : Trl → Int64} {k n : Nat}
theorem bs_z {c : Nat} : bs 0 c = false := by
  unfold bs
  rw [show (0 : Int64).toBitVec = 0#64 from rfl, BitVec.getLsbD_zero]
theorem tg_bs {c : Nat} : ∀ n, bs (tg f T k n) c = oAny (fun L => bs (f L) c) T k n
  | 0 => bs_z
  | n + 1 => by
    unfold tg
    rw [oAny_s]
    by_cases e : n = k
    · rw [if_pos e, tg_bs n, e, beq_self_eq_true, Bool.not_true, Bool.false_and, Bool.or_false]
    · rw [if_neg e, bs_or, tg_bs n, beq_eq_false_iff_ne.mpr e, Bool.not_false, Bool.true_and]
/-- with the one that was left out -/
theorem oAny_k {p : Trl → Bool} (hk : k < n) (hn : n ≤ 40) : oAny p T 40 n = (oAny p T k n || p (gTr T k)) := by
  rw [Bool.eq_iff_iff, Bool.or_eq_true]
  unfold oAny
  rw [List.any_eq_true, List.any_eq_true]
  constructor
  · rintro ⟨i, h1, h2⟩
    rw [Bool.and_eq_true] at h2
    by_cases e : i = k
    · rw [e] at h2; exact Or.inr h2.2
    · exact Or.inl ⟨i, h1, by rw [beq_eq_false_iff_ne.mpr e]; exact h2.2⟩
  · rintro (⟨i, h1, h2⟩ | h)
    · rw [Bool.and_eq_true] at h2
      have := List.mem_range.mp h1
      exact ⟨i, h1, by rw [beq_eq_false_iff_ne.mpr (show i ≠ 40 by omega)]; exact h2.2⟩
    · exact ⟨k, List.mem_range.mpr hk, by rw [beq_eq_false_iff_ne.mpr (show k ≠ 40 by omega)]; exact h⟩
theorem tg_eq (hk : k < n) (hn : n ≤ 40) : tg f T k n = tg f T 40 n ↔ ∀ c, c < 64 → bs (f (gTr T k)) c = true → oAny (fun L => bs (f L) c) T k n = true := by
  constructor
  · intro h c hc h1
    have := congrArg (fun z => bs z c) h
    have this : bs (tg f T k n) c = bs (tg f T 40 n) c := this
    rw [tg_bs, tg_bs, oAny_k hk hn, h1, Bool.or_true] at this
    exact this
  · intro h
    refine bs_ext (fun c hc => ?_)
    rw [tg_bs, tg_bs, oAny_k hk hn]
    cases e : bs (f (gTr T k)) c with
    | false => rw [Bool.or_false]
    | true => rw [h c hc e]; rfl
theorem oAny_congr {p q : Trl → Bool} (h : ∀ i, i < n → p (gTr T i) = q (gTr T i)) : oAny p T k n = oAny q T k n := by
  unfold oAny
  rw [Bool.eq_iff_iff, List.any_eq_true, List.any_eq_true]
  constructor
  · rintro ⟨i, h1, h2⟩; exact ⟨i, h1, by rw [← h i (List.mem_range.mp h1)]; exact h2⟩
  · rintro ⟨i, h1, h2⟩; exact ⟨i, h1, by rw [h i (List.mem_range.mp h1)]; exact h2⟩
theorem mb_bs (hL : TrO L) {c : Nat} (hc : c < 64) : bs (mb L) c = (!(metN L == 0) && (metN L == Int32.ofNat c)) := by
  obtain ⟨x, hx, ex⟩ := ruB_in (met_ru hL)
  unfold mb
  rw [ex]
  by_cases e0 : x = 0
  · subst e0
    rw [if_pos (by decide), bs_z]; rfl
  · rw [if_neg (show ¬ Int32.ofNat x ≤ 0 from nle_oN (b := 0) (by omega) (by omega)), bs_one (by omega) c hc, show (Int32.ofNat x == 0) = false from beq_eq_false_iff_ne.mpr (fun z => e0 ((oN_inj (by omega) (by omega)).mp (z.trans (show (0 : Int32) = Int32.ofNat 0 from rfl))))]
    by_cases e : c = x
    · rw [e, decide_eq_true rfl, beq_self_eq_true]; rfl
    · rw [decide_eq_false e, beq_eq_false_iff_ne.mpr (fun z => e ((oN_inj (by omega) (by omega)).mp z).symm)]; rfl
theorem fb_bs {c : Nat} : bs (fb L) c = (decide (c < 8) && fnB L (Int32.ofNat (2 ^ c))) := by
  have := fnN_lt L 8
  unfold fb
  rw [fnK_eq, n32 (by omega), bs_n (by omega), fnN_bit]
/-- a trial is needless if others meet and find what it does -/
theorem ne_iff (hT : ∀ L ∈ T, TrO L) (hk : k < T.length) (hn : T.length ≤ 40) : (tg mb T k T.length = tg mb T 40 T.length ∧ tg fb T k T.length = tg fb T 40 T.length) ↔ neL T k = true := by
  have hO : ∀ i, i < T.length → TrO (gTr T i) := fun i hi => hT _ (gTr_mem hi)
  have e1 : tg mb T k T.length = tg mb T 40 T.length ↔ nlM T k T.length = true := by
    rw [tg_eq hk hn]
    unfold nlM
    rw [Bool.or_eq_true]
    obtain ⟨x, hx, ex⟩ := ruB_in (met_ru (hO k hk))
    have oe : ∀ c, c < 64 → c = x → x ≠ 0 → oAny (fun L => bs (mb L) c) T k T.length = oAny (fun L => metN L == metN (gTr T k)) T k T.length := fun c hc e h0 => oAny_congr (fun i hi => by
      rw [mb_bs (hO i hi) hc, ex, e]
      by_cases q : metN (gTr T i) = Int32.ofNat x
      · rw [q, beq_self_eq_true, Bool.and_true, show (Int32.ofNat x == 0) = false from beq_eq_false_iff_ne.mpr (fun z => h0 ((oN_inj (by omega) (by omega)).mp (z.trans (show (0 : Int32) = Int32.ofNat 0 from rfl))))]; rfl
      · rw [beq_eq_false_iff_ne.mpr q, Bool.and_false])
    constructor
    · intro h
      by_cases e0 : x = 0
      · exact Or.inl (by rw [ex, e0]; rfl)
      · refine Or.inr ?_
        have := h x (by omega) (by
          rw [mb_bs (hO k hk) (by omega), ex, beq_self_eq_true, Bool.and_true, show (Int32.ofNat x == 0) = false from beq_eq_false_iff_ne.mpr (fun z => e0 ((oN_inj (by omega) (by omega)).mp (z.trans (show (0 : Int32) = Int32.ofNat 0 from rfl))))]; rfl)
        rw [oe x (by omega) rfl e0] at this
        exact this
    · intro h c hc h1
      rw [mb_bs (hO k hk) hc, ex, Bool.and_eq_true] at h1
      have ecx : c = x := ((oN_inj (by omega) (by omega)).mp (beq_iff_eq.mp h1.2)).symm
      have h0 : x ≠ 0 := fun z => by rw [z] at h1; exact absurd h1.1 (by decide)
      rw [oe c hc ecx h0]
      refine h.resolve_left (fun z => h0 ?_)
      rw [ex] at z
      exact (oN_inj (by omega) (by omega)).mp ((beq_iff_eq.mp z).trans (show (0 : Int32) = Int32.ofNat 0 from rfl))
  have e2 : tg fb T k T.length = tg fb T 40 T.length ↔ (List.range 8).all (fun b => !fnB (gTr T k) (Int32.ofNat (2 ^ b)) || oAny (fun L => fnB L (Int32.ofNat (2 ^ b))) T k T.length) = true := by
    rw [tg_eq hk hn, List.all_eq_true]
    have oe : ∀ c, c < 8 → oAny (fun L => bs (fb L) c) T k T.length = oAny (fun L => fnB L (Int32.ofNat (2 ^ c))) T k T.length := fun c hc => oAny_congr (fun i _ => by
      rw [fb_bs, decide_eq_true hc, Bool.true_and])
    constructor
    · intro h b hb
      have hb := List.mem_range.mp hb
      cases e : fnB (gTr T k) (Int32.ofNat (2 ^ b)) with
      | false => rfl
      | true =>
        have := h b (by omega) (by rw [fb_bs, decide_eq_true hb, e]; rfl)
        rw [oe b hb] at this
        rw [this]; rfl
    · intro h c hc h1
      rw [fb_bs, Bool.and_eq_true] at h1
      have h8 : c < 8 := of_decide_eq_true h1.1
      have := h c (List.mem_range.mpr h8)
      rw [h1.2] at this
      rw [oe c h8]
      exact this
  rw [e1, e2]
  unfold neL nlB
  rw [Bool.and_eq_true]
/-- what is left, when one is left out -/
theorem tg_er (hk : k < T.length) (hn : T.length ≤ 40) : tg f (T.eraseIdx k) 40 (T.length - 1) = tg f T k T.length := by
  have lo : ∀ j, j ≤ k → tg f (T.eraseIdx k) 40 j = tg f T k j := by
    intro j
    induction j with
    | zero => intro _; rfl
    | succ j ih =>
      intro hj
      unfold tg
      rw [if_neg (by omega), if_neg (by omega), ih (by omega), gTr_er, if_pos (by omega)]
  have hi : ∀ j, k ≤ j → j < 40 → tg f (T.eraseIdx k) 40 j = tg f T k (j + 1) := by
    intro j
    induction j with
    | zero =>
      intro h0 _
      have : k = 0 := by omega
      subst this
      rfl
    | succ j ih =>
      intro hj h4
      by_cases e : k = j + 1
      · have := lo (j + 1) (by omega)
        rw [this]
        conv => rhs; unfold tg
        rw [if_pos e.symm]
      · conv => lhs; unfold tg
        conv => rhs; unfold tg
        rw [if_neg (by omega), if_neg (by omega), ih (by omega) (by omega), gTr_er, if_neg (by omega)]
  have := hi (T.length - 1) (by omega) (by omega)
  rw [show T.length - 1 + 1 = T.length by omega] at this
  exact this
theorem ct_together (h : MdT G U1 BB A S B F T M) (hlk : ∀ i, i < T.length → mI M 522 0 i ≠ 0) (hv : ∀ o, o < T.length → (Int32.ofNat o = v1 ↔ o = k)) (hR : R (tg (if v2 = 0 then mb else fb) T k T.length) M) : w_Model_together 0 v1 v2 R M := by
  have h40 := h.n
  have loop : ∀ n o, T.length - o < n → o ≤ T.length → w_Model_together_L5 0 R n v1 v2 (tg (if v2 = 0 then mb else fb) T k o) (Int32.ofNat o) M := by
    intro n
    induction n with
    | zero => intro o z; exact absurd z (by omega)
    | succ n ih =>
      intro o hn ho
      unfold w_Model_together_L5
      rw [h40.1]
      by_cases eo : o = T.length
      · subst eo
        exact itp (le_oN (Nat.le_refl _) (by omega)) hR
      refine itn (nle_oN (by omega) (by omega)) ?_
      have nx : ∀ x, x = tg (if v2 = 0 then mb else fb) T k (o + 1) → w_Model_together_j61 0 R (w_Model_together_L5 0 R n) v1 v2 x (Int32.ofNat o) M := fun x ex => by
        unfold w_Model_together_j61
        rw [lit32 1, oN_add, ex]
        exact ih (o + 1) (by omega) (by omega)
      obtain ⟨q1, q2⟩ := h.2.1.2.2 o (by omega) (hlk o (by omega))
      have l123 := h.2.1.2.1.2.1
      have l124 := h.2.1.2.1.2.2.1
      have vp : vp_in (Int32.ofNat o) 40 := (vp_oN (by omega)).mpr (by omega)
      by_cases eok : o = k
      · refine itp ((hv o (by omega)).mpr eok) (nx _ ?_)
        conv => rhs; unfold tg
        rw [if_pos eok]
      refine itn (fun z => eok ((hv o (by omega)).mp z)) ?_
      have es : tg (if v2 = 0 then mb else fb) T k (o + 1) = tg (if v2 = 0 then mb else fb) T k o ||| (if v2 = 0 then mb else fb) (gTr T o) := by
        conv => lhs; unfold tg
        rw [if_neg eok]
      rw [es] at nx
      rw [oN_tnc (k := o) (by omega), q1, q2]
      by_cases c2 : v2 = 0
      · rw [if_pos c2] at nx
        refine itp c2 ⟨by rw [l123]; exact vp, ?_⟩
        unfold mb at nx
        by_cases c3 : metN (gTr T o) ≤ 0
        · rw [if_pos c3] at nx
          refine itp c3 ?_
          unfold w_Model_together_j59
          rw [if_pos c2]
          exact nx _ rfl
        · rw [if_neg c3] at nx
          refine itn c3 ⟨by rw [l123]; exact vp, ?_⟩
          unfold w_Model_together_j59
          rw [if_pos c2]
          exact nx _ rfl
      · rw [if_neg c2] at nx
        refine itn c2 ⟨by rw [l124]; exact vp, ?_⟩
        unfold w_Model_together_j59
        rw [if_neg c2]
        exact nx _ rfl
  unfold w_Model_together
  exact ⟨T.length + 1, loop (T.length + 1) 0 (by omega) (Nat.zero_le _)⟩
end
