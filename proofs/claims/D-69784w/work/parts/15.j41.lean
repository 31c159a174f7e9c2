/-! THE OPERATION hole -/
noncomputable def mAny (T : List Trl) (r : Nat) (n : Nat) : Bool := (List.range n).any (fun i => metN (gTr T i) == Int32.ofNat r)
def holF (P : Nat → Bool) : Nat → Nat → Int32 → Int32
  | 0, _, _ => -2
  | n + 1, r, l => if (isR (Int32.ofNat r) && !P r) = true then (if l = 0 then Int32.ofNat r else holF P n (r + 1) (l + -1)) else holF P n (r + 1) l
noncomputable def holO (T : List Trl) (i : Int32) : Int32 := if 0 ≤ i then holF (fun r => mAny T r T.length) 59 1 i else -1
section
variable {G : List Sl} {U1 : List (List Kd × Kd)} {BB A : List Nm} {S : List Sg} {B F t b : Nat} {T : List Trl} {L : Trl} {M M' : Mem} {Q : Int32 → Mem → Prop} {X : Mem → Prop} {a c d v : Int32}
theorem mAny_s {r n : Nat} : mAny T r (n + 1) = (mAny T r n || (metN (gTr T n) == Int32.ofNat r)) := by
  unfold mAny
  rw [List.range_succ, List.any_append, List.any_cons, List.any_nil, Bool.or_false]
theorem mAny_up {r n m : Nat} (h : mAny T r n = true) (hm : n ≤ m) : mAny T r m = true := by
  unfold mAny at *
  rw [List.any_eq_true] at *
  obtain ⟨i, h1, h2⟩ := h
  exact ⟨i, List.mem_range.mpr (by have := List.mem_range.mp h1; omega), h2⟩
theorem c_whole (h : WkT BB A B F T M) (hF : F < 1000000) (hCF : 601 < F) (hQ : ∀ A' M', A <+: A' → WkT BB A' B F T M' → Q (holO T a) M') : w_Works_hole 0 a Q X M := by
  unfold holO at hQ
  unfold w_Works_hole
  by_cases c0 : 0 ≤ a
  · rw [if_pos c0] at hQ
    refine itp c0 ⟨60, ?_⟩
    have loop : ∀ n r l A1 M1, r + n = 60 → 1 ≤ r → A <+: A1 → WkT BB A1 B F T M1 → (∀ A' M', A <+: A' → WkT BB A' B F T M' → Q (holF (fun r => mAny T r T.length) n r l) M') → w_Works_hole_L10 0 Q X (n + 1) l (Int32.ofNat r) M1 := by
      intro n
      induction n with
      | zero =>
        intro r l A1 M1 hr h1 p1 p2 hq
        unfold w_Works_hole_L10
        have : r = 60 := by omega
        subst this
        exact itp (by decide) (hq A1 M1 p1 p2)
      | succ n ih =>
        intro r l A1 M1 hr h1 p1 p2 hq
        unfold w_Works_hole_L10
        refine itn (nle_oN (a := 60) (by omega) (by omega)) (c_isRule ?_)
        have hqe : ∀ A' M', A <+: A' → WkT BB A' B F T M' → Q (if (isR (Int32.ofNat r) && !mAny T r T.length) = true then (if l = 0 then Int32.ofNat r else holF (fun r => mAny T r T.length) n (r + 1) (l + -1)) else holF (fun r => mAny T r T.length) n (r + 1) l) M' := hq
        have j87 : ∀ l' A2 M2, A <+: A2 → WkT BB A2 B F T M2 → (∀ A' M', A <+: A' → WkT BB A' B F T M' → Q (holF (fun r => mAny T r T.length) n (r + 1) l') M') → w_Works_hole_j87 0 Q X (w_Works_hole_L10 0 Q X (n + 1)) l' (Int32.ofNat r) M2 := fun l' A2 M2 g1 g2 g3 => by
          unfold w_Works_hole_j87
          rw [lit32 1, oN_add]
          exact ih (r + 1) l' A2 M2 (by omega) (by omega) g1 g2 g3
        cases eR : isR (Int32.ofNat r) with
        | false =>
          rw [eR] at hqe
          exact itp rfl (j87 l A1 M1 p1 p2 (fun A' M' g1 g2 => by have := hqe A' M' g1 g2; rw [if_neg (by simp)] at this; exact this))
        | true =>
          rw [eR] at hqe
          refine itn (by decide) ⟨T.length + 1, ?_⟩
          have j70 : ∀ A2 M2, A <+: A2 → WkT BB A2 B F T M2 → w_Works_hole_j70 0 Q X (w_Works_hole_L10 0 Q X (n + 1)) l (Int32.ofNat r) (b2 (mAny T r T.length)) M2 := fun A2 M2 g1 g2 => by
            unfold w_Works_hole_j70
            cases eA : mAny T r T.length with
            | true =>
              rw [eA] at hqe
              exact itn (by decide) (j87 l A2 M2 g1 g2 (fun A' M' g1 g2 => by have := hqe A' M' g1 g2; rw [if_neg (by decide)] at this; exact this))
            | false =>
              rw [eA] at hqe
              refine itp rfl ?_
              by_cases cl : l = 0
              · refine itp cl ?_
                have := hqe A2 M2 g1 g2
                rw [if_pos (by decide), if_pos cl] at this
                exact this
              · exact itn cl (j87 _ A2 M2 g1 g2 (fun A' M' g1 g2 => by have := hqe A' M' g1 g2; rw [if_pos (by decide), if_neg cl] at this; exact this))
          have lp : ∀ m t A2 M2, T.length - t < m → t ≤ T.length → A <+: A2 → WkT BB A2 B F T M2 → w_Works_hole_L33 0 Q X (w_Works_hole_L10 0 Q X (n + 1)) m l (Int32.ofNat r) (b2 (mAny T r t)) (Int32.ofNat t) M2 := by
            intro m
            induction m with
            | zero => intro t A2 M2 z; exact absurd z (by omega)
            | succ m im =>
              intro t A2 M2 hm ht g1 g2
              have h40 := g2.n
              unfold w_Works_hole_L33
              rw [h40.1]
              by_cases et : t = T.length
              · subst et
                exact itp (le_oN (Nat.le_refl _) (by omega)) (j70 A2 M2 g1 g2)
              refine itn (nle_oN (by omega) (by omega)) ?_
              cases eA : mAny T r t with
              | true =>
                refine itn (by decide) ?_
                have := j70 A2 M2 g1 g2
                rw [mAny_up eA ht] at this
                exact this
              | false =>
                refine itp rfl (c_ruleMet g2 (by omega) hF hCF (fun A3 M3 g3 g4 => ?_))
                have nx : ∀ v, v = b2 (mAny T r (t + 1)) → w_Works_hole_j62 0 Q X (w_Works_hole_L10 0 Q X (n + 1)) (w_Works_hole_L33 0 Q X (w_Works_hole_L10 0 Q X (n + 1)) m) l (Int32.ofNat r) (Int32.ofNat t) v M3 := fun v ev => by
                  unfold w_Works_hole_j62
                  rw [lit32 1, oN_add, ev]
                  exact im (t + 1) A3 M3 (by omega) (by omega) (g1.trans g3) g4
                rw [mAny_s, eA, Bool.false_or] at nx
                by_cases cm : metN (gTr T t) = Int32.ofNat r
                · exact itp cm (nx 1 (by rw [cm, beq_self_eq_true]; rfl))
                · exact itn cm (nx 0 (by rw [beq_eq_false_iff_ne.mpr cm]; rfl))
          exact lp (T.length + 1) 0 A1 M1 (by omega) (Nat.zero_le _) p1 p2
    exact loop 59 1 a A M rfl (by omega) List.prefix_rfl h hQ
  · rw [if_neg c0] at hQ
    exact itn c0 (hQ A M List.prefix_rfl h)
theorem ct_isRule (hQ : Q (b2 (isR v)) M) : w_Model_isRule v Q M := by
  unfold isR ruB at hQ
  have k : ∀ {lo hi : Int32}, (v < lo ∨ hi < v) → (decide (lo ≤ v) && decide (v ≤ hi)) = false := fun h => by
    rcases h with z | z
    · rw [decide_eq_false (Int32.not_le.mpr z)]; rfl
    · rw [decide_eq_false (Int32.not_le.mpr z), Bool.and_false]
  have k1 : ∀ {lo hi : Int32}, ¬ (v < lo ∨ hi < v) → (decide (lo ≤ v) && decide (v ≤ hi)) = true ∧ lo ≤ v := fun h => by
    have a1 := Int32.not_lt.mp (fun z => h (Or.inl z))
    have a2 := Int32.not_lt.mp (fun z => h (Or.inr z))
    rw [decide_eq_true a1, decide_eq_true a2]; exact ⟨rfl, a1⟩
  have nz : ∀ {lo : Int32}, 0 < lo → lo ≤ v → (v == 0) = false := fun h0 h1 => by
    rw [beq_eq_false_iff_ne]
    intro z
    rw [z] at h1
    exact absurd h0 (Int32.not_lt.mpr h1)
  have two : ∀ {lo hi : Int32} {P R : Prop}, ((v < lo ∨ hi < v) → P) → (¬ (v < lo ∨ hi < v) → R) → (if v < lo then P else if v ≤ hi then R else P) := fun h0 h1 => by
    split
    · rename_i z; exact h0 (Or.inl z)
    · rename_i z
      split
      · rename_i y; exact h1 (fun q => q.elim z (fun q => absurd y (Int32.not_le.mpr q)))
      · rename_i y; exact h0 (Or.inr (Int32.not_le.mp y))
  unfold w_Model_isRule
  refine two (fun z1 => ?_) (fun z1 => ?_)
  · unfold w_Model_isRule_j11
    refine two (fun z2 => ?_) (fun z2 => ?_)
    · unfold w_Model_isRule_j23
      refine two (fun z3 => ?_) (fun z3 => ?_)
      · unfold w_Model_isRule_j35
        by_cases c1 : v < 50
        · refine itp c1 ?_
          rw [k z1, k z2, k z3, k (Or.inl c1)] at hQ
          simp only [Bool.or_false] at hQ
          rw [show ((v == 0) && !(v == 0)) = false by cases (v == 0) <;> rfl] at hQ
          exact hQ
        refine itn c1 ?_
        by_cases c2 : 59 < v
        · refine itp c2 ?_
          rw [k z1, k z2, k z3, k (Or.inr c2)] at hQ
          simp only [Bool.or_false] at hQ
          rw [show ((v == 0) && !(v == 0)) = false by cases (v == 0) <;> rfl] at hQ
          exact hQ
        · refine itn c2 ?_
          have z4 : ¬ (v < 50 ∨ 59 < v) := fun z => z.elim c1 c2
          rw [(k1 z4).1, nz (by decide) (k1 z4).2, Bool.or_true] at hQ; exact hQ
      · rw [(k1 z3).1, nz (by decide) (k1 z3).2, Bool.or_true, Bool.true_or] at hQ; exact hQ
    · rw [(k1 z2).1, nz (by decide) (k1 z2).2, Bool.or_true, Bool.true_or, Bool.true_or] at hQ; exact hQ
  · rw [(k1 z1).1, nz (by decide) (k1 z1).2, Bool.or_true, Bool.true_or, Bool.true_or, Bool.true_or] at hQ; exact hQ
theorem bs_key {m : Int64} {c : Nat} (hc : c < 64) : ((m >>> ((Int32.ofNat c).toInt64 &&& 63)) &&& (1 : Int64)) = if bs m c then 1 else 0 := by
  rw [sh64 hc]
  apply Int64.toBitVec_inj.mp
  rw [Int64.toBitVec_and, Int64.toBitVec_shiftRight, bv64 hc]
  have e1 : (1 : Int64).toBitVec = 1#64 := by decide
  ext i hi
  rw [BitVec.getElem_and]
  have e2 : (Int64.toBitVec 1)[i] = decide (i = 0) := by
    rw [← BitVec.getLsbD_eq_getElem, e1, BitVec.getLsbD_one]; simp [hi]
  rw [e2]
  by_cases ci : i = 0
  · subst ci
    have : (m.toBitVec.sshiftRight' (BitVec.ofNat 64 c))[0] = bs m c := by
      rw [← BitVec.getLsbD_eq_getElem, BitVec.getLsbD_sshiftRight', BitVec.toNat_ofNat, Nat.mod_eq_of_lt (by omega)]
      simp [hc, bs]
    rw [this]
    cases bs m c <;> simp
  · have : decide (i = 0) = false := by simp [ci]
    rw [this, Bool.and_false]
    cases bs m c with
    | true =>
      show false = (Int64.toBitVec 1)[i]
      rw [e2, this]
    | false =>
      show false = (Int64.toBitVec 0)[i]
      simp
theorem bs_0 {m : Int64} {c : Nat} (hc : c < 64) : lg_cmp ((m >>> ((Int32.ofNat c).toInt64 &&& 63)) &&& (1 : Int64)) (0 : Int64) = 0 ↔ bs m c = false := by
  have key : ((m >>> ((Int32.ofNat c).toInt64 &&& 63)) &&& (1 : Int64)) = if bs m c then 1 else 0 := bs_key hc
  rw [key, lg_cmp0]
  cases bs m c
  · exact ⟨fun _ => rfl, fun _ => rfl⟩
  · exact ⟨fun z => absurd z (by decide), fun z => by cases z⟩
theorem ct_whole (h : MdT G U1 BB A S B F T M) (hF : F < 1000000) (hCF : 601 < F) (hQ : ∀ A' S' M', A <+: A' → S <+: S' → MdT G U1 BB A' S' B F T M' → Q (holO T a) M') : w_Model_hole 0 a Q X M := by
  unfold holO at hQ
  unfold w_Model_hole
  by_cases c0 : 0 ≤ a
  · rw [if_pos c0] at hQ
    refine itp c0 ⟨T.length + 1, ?_⟩
    have fin : ∀ n r l m A1 S1 M1, r + n = 60 → 1 ≤ r → A <+: A1 → S <+: S1 → MdT G U1 BB A1 S1 B F T M1 → (∀ r, 1 ≤ r → r < 60 → bs m r = mAny T r T.length) → (∀ A' S' M', A <+: A' → S <+: S' → MdT G U1 BB A' S' B F T M' → Q (holF (fun r => mAny T r T.length) n r l) M') → w_Model_hole_L50 0 Q X (n + 1) m l (Int32.ofNat r) M1 := by
      intro n
      induction n with
      | zero =>
        intro r l m A1 S1 M1 hr h1 p1 p2 p3 hm hq
        unfold w_Model_hole_L50
        have : r = 60 := by omega
        subst this
        exact itp (by decide) (hq A1 S1 M1 p1 p2 p3)
      | succ n ih =>
        intro r l m A1 S1 M1 hr h1 p1 p2 p3 hm hq
        unfold w_Model_hole_L50
        refine itn (nle_oN (a := 60) (by omega) (by omega)) (ct_isRule ?_)
        have hqe : ∀ A' S' M', A <+: A' → S <+: S' → MdT G U1 BB A' S' B F T M' → Q (if (isR (Int32.ofNat r) && !mAny T r T.length) = true then (if l = 0 then Int32.ofNat r else holF (fun r => mAny T r T.length) n (r + 1) (l + -1)) else holF (fun r => mAny T r T.length) n (r + 1) l) M' := hq
        have j87 : ∀ l', (∀ A' S' M', A <+: A' → S <+: S' → MdT G U1 BB A' S' B F T M' → Q (holF (fun r => mAny T r T.length) n (r + 1) l') M') → w_Model_hole_j87 0 Q X (w_Model_hole_L50 0 Q X (n + 1)) m l' (Int32.ofNat r) M1 := fun l' g3 => by
          unfold w_Model_hole_j87
          rw [lit32 1, oN_add]
          exact ih (r + 1) l' m A1 S1 M1 (by omega) (by omega) p1 p2 p3 hm g3
        cases eR : isR (Int32.ofNat r) with
        | false =>
          rw [eR] at hqe
          exact itp rfl (j87 l (fun A' S' M' g1 g2 g3 => by have := hqe A' S' M' g1 g2 g3; rw [if_neg (by simp)] at this; exact this))
        | true =>
          rw [eR] at hqe
          refine itn (by decide) ?_
          have eb := hm r h1 (by omega)
          cases eA : mAny T r T.length with
          | true =>
            rw [eA] at hqe eb
            exact itn (fun z => by rw [(bs_0 (by omega)).mp z] at eb; cases eb) (j87 l (fun A' S' M' g1 g2 g3 => by have := hqe A' S' M' g1 g2 g3; rw [if_neg (by decide)] at this; exact this))
          | false =>
            rw [eA] at hqe eb
            refine itp ((bs_0 (by omega)).mpr eb) ?_
            by_cases cl : l = 0
            · refine itp cl ?_
              have := hqe A1 S1 M1 p1 p2 p3
              rw [if_pos (by decide), if_pos cl] at this
              exact this
            · exact itn cl (j87 _ (fun A' S' M' g1 g2 g3 => by have := hqe A' S' M' g1 g2 g3; rw [if_pos (by decide), if_neg cl] at this; exact this))
    have loop : ∀ n t m A1 S1 M1, T.length - t < n → t ≤ T.length → A <+: A1 → S <+: S1 → MdT G U1 BB A1 S1 B F T M1 → (∀ r, 1 ≤ r → r < 60 → bs m r = mAny T r t) → w_Model_hole_L11 0 Q X n a m (Int32.ofNat t) M1 := by
      intro n
      induction n with
      | zero => intro t m A1 S1 M1 z; exact absurd z (by omega)
      | succ n ih =>
        intro t m A1 S1 M1 hn ht p1 p2 p3 hm
        have h40 := p3.n
        unfold w_Model_hole_L11
        rw [h40.1]
        by_cases et : t = T.length
        · subst et
          exact itp (le_oN (Nat.le_refl _) (by omega)) ⟨60, fin 59 1 a m A1 S1 M1 rfl (by omega) p1 p2 p3 hm hQ⟩
        refine itn (nle_oN (by omega) (by omega)) (ct_look p3 (by omega) hF hCF (fun A2 S2 M2 p4 p5 p6 p7 _ => ?_))
        rw [oN_tnc (k := t) (by omega), (p6.2.1.2.2 t (by omega) p7).1]
        refine ⟨by rw [p6.2.1.2.1.2.1]; exact (vp_oN (by omega)).mpr (by omega), _, rfl, ?_⟩
        rw [lit32 1, oN_add]
        refine ih (t + 1) _ A2 S2 M2 (by omega) (by omega) (p1.trans p4) (p2.trans p5) p6 (fun r h1 h2 => ?_)
        obtain ⟨x, hx, ex⟩ := ruB_in (met_ru (h.2.2 _ (gTr_mem (show t < T.length by omega))).1)
        rw [bs_or, ex, bs_one (by omega) r (by omega), hm r h1 h2, mAny_s, ex]
        congr 1
        by_cases c : r = x
        · rw [c, decide_eq_true rfl, beq_self_eq_true]
        · rw [decide_eq_false c, beq_eq_false_iff_ne.mpr (fun z => c ((oN_inj (by omega) (by omega)).mp z).symm)]
    refine loop (T.length + 1) 0 0 A S M (by omega) (Nat.zero_le _) List.prefix_rfl List.prefix_rfl h (fun r h1 h2 => ?_)
    show bs 0 r = false
    unfold bs
    rw [show (0 : Int64).toBitVec = 0#64 from rfl, BitVec.getLsbD_zero]
  · rw [if_neg c0] at hQ
    exact itn c0 (hQ A S M List.prefix_rfl List.prefix_rfl h)
end
