/-! THE OPERATION halt, in the works -/
abbrev clrL (l : Ln) : Ln := (false, 0, 0, (0, 0, -2, 0), lCa l, none, [])
/-- all threads are gone, all locks are free -/
def hltS (s : Ms) : Ms := (zL s, (fun k => if zC s k = 1 then 3 else zC s k), zO s, zB s, zS s, ((zH s).1, (zH s).2.1, (zH s).2.2.1, (fun r => ((gOb s r).1, (gOb s r).2.1, (gOb s r).2.2.1, 0, (gOb s r).2.2.2.2)), (zH s).2.2.2.2), (zF s).map (fun f => (f.1, f.2.1, 0, f.2.2.2)), (fun t => clrL (zN s t)), (0, (zT s).2.2, (zT s).2.2), zE s, zD s, zK s)
def onN (s : Ms) : Nat → Nat
  | 0 => 0
  | t + 1 => onN s t + (if lSt (zN s t) = 1 then 1 else 0)
abbrev SHc : Nat := (271716135220527900227848059256329966269188730667858255327392016120657141234616989392099873673415990671747587681563989830198394294207379690529454629935343413390013355245820336758173284003347890887321079290688688028993127648613457188376465079728316569709133467229089190826320494784853893992588775710570043302951792560882614240707706882796225622952999022603347779978336993790166367451060162627202127365858250611173323060942239979344053982903995145334539095054254953888315785594939458954653248038395915823215990298915988864978609255190991192844770690275311579884583259531403119954746758478197117154250148990145490728290778168891335192912490326901253506369662587891360344436671406661922765621174368596586721349431897783491525907316736)
abbrev SHt : Nat := (271716135220527900227848059256329966269188730667858255327392016120657141234616989392099873673415990671747587681563989830198394294207379690529454629935343413390013355245820336758173284003347890887321079290688688028993127648613457188376465079728316569709133467229089190826320494784853893992588775710570043302951792560882614240707706882796225622952999022603347779978336993790166367451060162627202127365858250611173323060942239979344053982903995145334539095054254953888315785594939458954653248038395915823215990298915988864978609255190991192844770690275311579884583259531403119954746758478197117154250148990145490728290778168891335192912490326901253506369662587891360344436671406661922765621174368596586721349431897783561894651494400)
def clrd (L : Nat) (M : Mem) : Prop := (mI M 7 L 1 = 0 ∧ mI M 7 L 2 = 0 ∧ mI M 7 L 10 = 0 ∧ mI M 7 L 11 = 0 ∧ mI M 7 L 12 = 0) ∧ mI M 7 L 13 = 0 ∧ mI M 7 L 14 = 0 ∧ mI M 7 L 15 = -2 ∧ mI M 7 L 16 = 0 ∧ mI M 7 L 18 = 0 ∧ mI M 7 L 19 = -1
theorem c_clear {L : Nat} {Q : Mem → Prop} {M : Mem} (hQ : ∀ M', Fr SHc M M' → clrd L M' → mI M' 7 L 0 = mI M 7 L 0 → (∀ i, i ≠ L → ∀ k, mI M' 7 i k = mI M 7 i k) → Q M') : w_Line_clear L Q M := by
  unfold w_Line_clear
  refine ⟨Or.inl rfl, _, rfl, _, rfl, _, rfl, hQ _ ?_ ?_ ?_ ?_⟩
  · exact Fr.wI rfl (Fr.wI rfl (Fr.wI rfl (Fr.wI rfl (Fr.wI rfl (Fr.wI rfl (Fr.wI rfl (Fr.wI rfl (Fr.wI rfl (Fr.wI rfl (Fr.wI rfl (Fr.rf _ _)))))))))))
  · refine ⟨⟨?_, ?_, ?_, ?_, ?_⟩, ?_, ?_, ?_, ?_, ?_, ?_⟩ <;> simp only [mI_sI, Nat.reduceEqDiff, and_false, and_self, if_false, if_true]
  · simp only [mI_sI, Nat.reduceEqDiff, and_false, and_self, if_false, if_true]
  · intro i hi k
    simp only [mI_sI, hi, false_and, and_false, if_false]
theorem LU_at {W : List Cls} {L : Nat} {M : Mem} : ∀ {U : List Un} {i : Nat}, LU W L M U → i < U.length → unR W L i M (U.getD (U.length - 1 - i) (.inr (0, false)))
  | [], i, _, hi => absurd hi (Nat.not_lt_zero _)
  | u :: U, i, h, hi => by
    have hi : i < U.length + 1 := hi
    by_cases e : i = U.length
    · subst e
      rw [show (u :: U).length - 1 - U.length = 0 from by show U.length + 1 - 1 - U.length = 0; omega]
      exact h.1
    · rw [show (u :: U).length - 1 - i = (U.length - 1 - i) + 1 from by show U.length + 1 - 1 - i = _; omega]
      exact LU_at (U := U) h.2 (by omega)
theorem dr_c {U : List Un} {i : Nat} (h : i < U.length) : U.drop (U.length - (i + 1)) = U.getD (U.length - 1 - i) (.inr (0, false)) :: U.drop (U.length - i) := by
  rw [show U.length - i = U.length - (i + 1) + 1 by omega, show U.length - 1 - i = U.length - (i + 1) by omega, List.getD_eq_getElem?_getD, List.getElem?_eq_getElem (show U.length - (i + 1) < U.length by omega)]
  exact List.drop_eq_getElem_cons (by omega)
section
variable {A : List Nm} {W : List Cls} {w k C B F K L n : Nat} {br : Int32} {nq nk np nh nr : Nat} {s : Ms} {M M' M0 : Mem} {Q : Int32 → Mem → Prop} {U : List Un} {lk : LkS} {k13 : Int32 → Int32 → Int32 → Mem → Prop} {v1 v3 v4 : Int32}
theorem LKw.c46 {v : Int32} (h : LKw A W w br nq nk np nh nr lk M) (hK : KB w nq nk np nh nr) : LKw A W w br nq nk np nh nr lk (sI M 46 w k v) := by
  have hlo : Lo w bL M (sI M 46 w k v) := (Lo.rf w bL M).w (Nat.zero_le _)
  have row : ∀ f i j, f ≠ 46 → mI (sI M 46 w k v) f i j = mI M f i j := fun f i j hf => by rw [mI_sI, if_neg (fun z => hf z.1)]
  obtain ⟨hcw, h45, hx, hla, q1, q2, q3, q4, q5, q6⟩ := h
  refine ⟨hcw.lw hlo hK (fun j hj => row 5 w j (by omega)), fun d hd => (row 45 w d (by omega)).trans (h45 d hd), ⟨(row 5 w 56 (by omega)).trans hx.1, (row 5 w 57 (by omega)).trans hx.2.1, (row 5 w 58 (by omega)).trans hx.2.2⟩, fun d hd hl1 => ?_, q1, q2, q3, q4, (row 4 0 9 (by omega)).trans q5, (row 4 0 10 (by omega)).trans q6⟩
  obtain ⟨x, y, z⟩ := hla d hd hl1
  exact ⟨(row 47 w d (by omega)).trans x, (row 48 w d (by omega)).trans y, fun f hf' hs => (row 53 w _ (by omega)).trans (z f hf' hs)⟩
/-- the starts of a thread are told to have failed -/
theorem c_haltU (hK : KB w nq nk np nh nr) (hU : LU W L M0 U) (hl : U.length ≤ 91) (hst : ∀ k ∈ sts U, k < 51) (l46 : mL M0 46 w = 51) (l92 : mL M0 92 L = 91) (e1 : mI M0 7 L 1 = Int32.ofNat U.length)
    (hQ : ∀ M', Fr (70368744177664) M0 M' → LKw A W w br nq nk np nh nr lk M' → (∀ k, k ∈ sts U → mI M' 46 w k = 3) → (∀ k, k ∉ sts U → mI M' 46 w k = mI M0 46 w k) → w_Line_clear L (fun M14 => k13 v1 v3 (v4 + (1 : Int32)) M14) M') : ∀ n i M1, U.length - i < n → i ≤ U.length → Fr (70368744177664) M0 M1 → LKw A W w br nq nk np nh nr lk M1 → (∀ k, k ∈ sts (U.drop (U.length - i)) → mI M1 46 w k = 3) → (∀ k, k ∉ sts (U.drop (U.length - i)) → mI M1 46 w k = mI M0 46 w k) → w_Machine_halt_L45 w Q k13 n v1 v3 v4 L (Int32.ofNat i) M1 := by
  intro n
  induction n with
  | zero => intro i M1 hn; exact absurd hn (by omega)
  | succ n ih =>
    intro i M1 hn hi hf hL h3 h4
    have e1' : mI M1 7 L 1 = Int32.ofNat U.length := (hf.I (f := 7) (k := 1) rfl L).trans e1
    unfold w_Machine_halt_L45 w_Machine_halt_j83
    rw [e1']
    by_cases ce : U.length ≤ i
    · have ei : i = U.length := by omega
      rw [ei, Nat.sub_self, List.drop_zero] at h3 h4
      exact itp ((oN_le (by omega) (by omega)).mpr ce) (hQ M1 hf hL h3 h4)
    · have hil : i < U.length := by omega
      refine itn (fun z => ce ((oN_le (by omega) (by omega)).mp z)) ?_
      have hd := dr_c hil
      have hu := LU_at hU hil
      have e92 : mI M1 92 L i = mI M0 92 L i := hf.Ia (f := 92) rfl rfl L i
      have v92 : vp_in (Int32.ofNat i) (mL M1 92 L) := by rw [hf.L (f := 92) rfl, l92]; exact (vp_oN (by omega)).mpr (by omega)
      rw [oN_tnc (k := i) (by omega), e92, show Int32.ofNat i + (1 : Int32) = Int32.ofNat (i + 1) from oN_add i 1]
      refine ⟨v92, ?_⟩
      have hmem : ∀ u, U.getD (U.length - 1 - i) (.inr (0, false)) = u → u ∈ U := fun u e => by rw [← e]; exact getD_mem (by omega)
      generalize U.getD (U.length - 1 - i) (.inr (0, false)) = u at hu hd hmem
      cases u with
      | inl f =>
        have ef : mI M0 92 L i = -1 := by obtain ⟨c, j, a, lo, st⟩ := f; exact hu.1.2.2.2
        rw [ef]
        have es : sts (U.drop (U.length - (i + 1))) = sts (U.drop (U.length - i)) := by rw [hd]; rfl
        exact itp (by decide) (ih (i + 1) M1 (by omega) (by omega) hf hL (by rw [es]; exact h3) (by rw [es]; exact h4))
      | inr ko =>
        obtain ⟨k, own⟩ := ko
        have ek : mI M0 92 L i = Int32.ofNat k := hu.1
        have es : sts (U.drop (U.length - (i + 1))) = k :: sts (U.drop (U.length - i)) := by rw [hd]; rfl
        have hk : k < 51 := by
          have hall : ∀ (V : List Un), .inr (k, own) ∈ V → k ∈ sts V := by
            intro V
            induction V with
            | nil => intro z; cases z
            | cons v V ih2 =>
              intro z
              rcases List.mem_cons.mp z with y | y
              · rw [← y]; exact List.mem_cons_self ..
              · cases v with
                | inl g => exact ih2 y
                | inr g => exact List.mem_cons_of_mem _ (ih2 y)
          exact hst k (hall U (hmem _ rfl))
        rw [ek]
        refine itn (oN_nonneg (show k < 2147483648 by omega)) ⟨v92, by rw [hf.L (f := 46) rfl, l46]; exact (vp_oN (by omega)).mpr hk, ?_⟩
        rw [oN_tnc (k := k) (by omega)]
        refine ih (i + 1) _ (by omega) (by omega) (Fr.wIa rfl rfl hf) (hL.c46 hK) (fun j hj => ?_) (fun j hj => ?_)
        · rw [mI_sI]
          by_cases e : j = k
          · rw [if_pos ⟨rfl, rfl, e⟩]
          · rw [if_neg (fun z => e z.2.2)]
            rw [es] at hj
            exact h3 j ((List.mem_cons.mp hj).resolve_left e)
        · rw [es] at hj
          rw [mI_sI, if_neg (fun z => hj (by rw [z.2.2]; exact List.mem_cons_self ..))]
          exact h4 j (fun z => hj (List.mem_cons_of_mem _ z))
end
