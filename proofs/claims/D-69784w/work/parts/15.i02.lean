/-! THE OPERATION reach, in the works -/
/-- the methods that were reached -/
def rcB (V : RV) (M : Mem) : Prop := mI M 10 0 27 = Int32.ofNat V.length ∧ (mL M 101 0 = 381 ∧ mL M 102 0 = 381) ∧ ∀ i, i < V.length → mI M 102 0 i = Int32.ofNat (gV V i).1 ∧ mI M 101 0 i = Int32.ofNat (gV V i).2
def rcV (W : List Cls) (V : RV) (M : Mem) : Prop := okV W V ∧ rcB V M ∧ mL M 517 0 = 381 ∧ ∀ m : Nat × Nat, m.1 < W.length → m.2 < (gc W m.1).2.2.2.2.2.length → mI M 517 0 (moff W m.1 + m.2) = b2 (decide (m ∈ V))
/-- while what is reached is looked for -/
def Rw (A : List Nm) (W : List Cls) (w : Nat) (br : Int32) (nq nk np nh nr : Nat) (L0 : LkS) (z : RV × LkS) (M0 M : Mem) : Prop := (LKw A W w br nq nk np nh nr z.2 M ∧ cSt w M) ∧ LkM W L0 z.2 ∧ Fr F_Works_reach M0 M ∧ rcV W z.1 M
section
variable {A : List Nm} {W : List Cls} {w k C B F K c j : Nat} {br a b cc : Int32} {nq nk np nh nr : Nat} {s : Ms} {M M' M0 : Mem} {Q : Mem → Prop} {on : Nat → Bool} {L0 : LkS} {x : Mth} {V : RV} {m : Nat × Nat} {z : RV × LkS}
theorem rcV.fr {S : Nat} (h : rcV W V M) (hf : Fr S M M') (hS : okF S [cd 10 27, 101, 102, 517, 5101, 5102, 5517] = true := by rfl) : rcV W V M' := by
  have o := fun {b : Nat} (hb : b ∈ [cd 10 27, 101, 102, 517, 5101, 5102, 5517]) => okF_in hS hb
  obtain ⟨a, ⟨b1, ⟨b2', b3⟩, b4⟩, c, d⟩ := h
  exact ⟨a, ⟨(hf.I (f := 10) (k := 27) (o (by decide)) 0).trans b1, ⟨(hf.L (f := 101) (o (by decide)) 0).trans b2', (hf.L (f := 102) (o (by decide)) 0).trans b3⟩, fun i hi => ⟨(hf.Ia (f := 102) rfl (o (by decide)) 0 i).trans (b4 i hi).1, (hf.Ia (f := 101) rfl (o (by decide)) 0 i).trans (b4 i hi).2⟩⟩, (hf.L (f := 517) (o (by decide)) 0).trans c, fun m h1 h2 => (hf.Ia (f := 517) rfl (o (by decide)) 0 _).trans (d m h1 h2)⟩
abbrev SRw : Nat := (165118933505537997429527835416381957733363355383826707243926141253700840564906406647689210687221884860813536242715728049119847173487302345667526585435411800546947678177117509757296427636363535702919442820957607761861529540397671804270674566890350044228660203175558362225479690770784969219244297550492476356484224979782134847036626910612592956802231258519900343415977899029973843998289701704066776885371551035923853031772691650782850380552793540312920449966552033709821050098286900910418522691008645528229963611153502546632097725897345981624521321414105891489506148981718448243809647520899508141298474060763752741680186939672076725953993868743812040507757263169607038270193424476133722352446135095520216059467173502514229185655344204299913299835152370058916581305491435683322602526924255484790328113841928244847863485707647202261415836407095827900566083020149935542211102537615660113332723454840693905503924781056)
theorem gV_app {i : Nat} (h : i < V.length) : gV (V ++ [m]) i = gV V i := by
  show (V ++ [m]).getD i _ = V.getD i _
  rw [List.getD_eq_getElem?_getD, List.getD_eq_getElem?_getD, List.getElem?_append_left h]
theorem gV_end : gV (V ++ [m]) V.length = m := by
  show (V ++ [m]).getD V.length _ = _
  rw [List.getD_eq_getElem?_getD, List.getElem?_append_right (Nat.le_refl _), Nat.sub_self]; rfl
theorem gV_mem {i : Nat} (h : i < V.length) : gV V i ∈ V := by
  show V.getD i _ ∈ V
  rw [List.getD_eq_getElem?_getD, List.getElem?_eq_getElem h]; exact List.getElem_mem h
theorem c_comes (hcw : CWx A W w br nq nk np nh nr M) (h : rcV W V M) (hm : m.1 < W.length ∧ m.2 < (gc W m.1).2.2.2.2.2.length) (hQ : ∀ M', Fr SRw M M' → rcV W (ins V m) M' → Q M') : w_Works_comes 0 w (Int32.ofNat (moff W m.1 + m.2)) Q M := by
  obtain ⟨hok, ⟨b1, ⟨l101, l102⟩, b4⟩, l517, d⟩ := id h
  obtain ⟨u1, u2, u3, u4, u5⟩ := hcw.mo (e := 0) hm.1
  have hlt : moff W m.1 + m.2 < 381 := by omega
  have hl : V.length ≤ 381 := hok.len (fun y h1 h2 => by
    obtain ⟨-, -, w3, -⟩ := hcw.mo (e := 0) h1
    omega)
  obtain ⟨hH, -⟩ := hcw.2.1.2.2 m.1 hm.1 m.2 hm.2
  have f381 := hcw.2.1.1.2.1
  have l43 : mL M 43 w = 51 := hcw.2.1.1.1.1
  unfold w_Works_comes
  rw [oN_tnc (k := moff W m.1 + m.2) (by omega), d m hm.1 hm.2, l517]
  refine ⟨(vp_oN (by omega)).mpr hlt, ?_⟩
  by_cases hin : m ∈ V
  · rw [decide_eq_true hin]
    refine itn (by decide) (hQ M (Fr.rf _ _) ?_)
    rw [show ins V m = V from if_pos hin]; exact h
  · rw [decide_eq_false hin]
    have e27 : ∀ v, mI (sI M 517 0 (moff W m.1 + m.2) v) 10 0 27 = Int32.ofNat V.length := fun v => b1
    have e55 : ∀ v, mI (sI M 517 0 (moff W m.1 + m.2) v) 55 w (moff W m.1 + m.2) = Int32.ofNat m.1 := fun v => hH.1
    have hlt2 : V.length < 381 := by
      have := (okV_ins hok hm).len (n := 381) (fun y h1 h2 => by
        obtain ⟨-, -, w3, -⟩ := hcw.mo (e := 0) h1
        omega)
      rw [show ins V m = V ++ [m] from if_neg hin, List.length_append, List.length_singleton] at this
      omega
    refine itp rfl ⟨(vp_oN (by omega)).mpr hlt, by show vp_in _ (mL M 55 w); rw [f381 55 (by omega) (by omega)]; exact (vp_oN (by omega)).mpr hlt, by rw [e27]; show vp_in _ (mL M 102 0); rw [l102]; exact (vp_oN (by omega)).mpr hlt2, _, rfl, ?_⟩
    rw [e27, e55, oN_tnc (k := V.length) (by omega)]
    obtain ⟨M6, hM6⟩ : ∃ M6, M6 = sI (sI M 517 0 (moff W m.1 + m.2) ((1 : Int32) &&& 1)) 102 0 V.length (Int32.ofNat m.1) := ⟨_, rfl⟩
    rw [← hM6]
    have k27 : mI M6 10 0 27 = Int32.ofNat V.length := by rw [hM6]; exact b1
    have k55 : mI M6 55 w (moff W m.1 + m.2) = Int32.ofNat m.1 := by rw [hM6]; exact hH.1
    have k43 : mI M6 43 w m.1 = Int32.ofNat (moff W m.1) := by rw [hM6]; exact u1
    have kL : ∀ f i, mL M6 f i = mL M f i := fun f i => by rw [hM6]; rfl
    refine ⟨by rw [kL, f381 55 (by omega) (by omega)]; exact (vp_oN (by omega)).mpr hlt, by rw [k55, kL, l43]; exact (vp_oN (by omega)).mpr (by omega), by rw [k27, kL, l101]; exact (vp_oN (by omega)).mpr hlt2, _, rfl, ?_⟩
    rw [k27, k55, oN_tnc (k := m.1) (by omega), k43, oN_sub (by omega), show moff W m.1 + m.2 - moff W m.1 = m.2 by omega, oN_tnc (k := V.length) (by omega)]
    have e27' : mI (sI M6 101 0 V.length (Int32.ofNat m.2)) 10 0 27 = Int32.ofNat V.length := k27
    rw [e27', lit32 1, oN_add, hM6]
    refine hQ _ (Fr.wI rfl (Fr.wIa rfl rfl (Fr.wIa rfl rfl (Fr.wIa rfl rfl (Fr.rf _ _))))) ?_
    rw [show ins V m = V ++ [m] from if_neg hin]
    refine ⟨by rw [← show ins V m = V ++ [m] from if_neg hin]; exact okV_ins hok hm, ⟨?_, ⟨l101, l102⟩, fun i hi => ?_⟩, l517, fun y h1 h2 => ?_⟩
    · rw [mI_sI, if_pos ⟨rfl, rfl, rfl⟩, List.length_append, List.length_singleton]
    · rw [List.length_append, List.length_singleton] at hi
      by_cases ci : i = V.length
      · subst ci
        rw [gV_end]
        constructor
        · simp only [mI_sI, Nat.reduceEqDiff, and_false, false_and, if_false, and_self, true_and, and_true, if_true]
        · simp only [mI_sI, Nat.reduceEqDiff, and_false, false_and, if_false, and_self, true_and, and_true, if_true]
      · rw [gV_app (by omega)]
        simp only [mI_sI, Nat.reduceEqDiff, and_false, false_and, if_false, and_self, true_and, and_true, if_true, ci]
        exact b4 i (by omega)
    · by_cases ey : y = m
      · subst ey
        simp only [mI_sI, Nat.reduceEqDiff, and_false, false_and, if_false, and_self, true_and, and_true, if_true]
        rw [decide_eq_true (List.mem_append_right _ (List.mem_singleton.mpr rfl))]; rfl
      · have ne : moff W y.1 + y.2 ≠ moff W m.1 + m.2 := fun e => ey (moff_inj ⟨h1, h2⟩ hm e)
        simp only [mI_sI, Nat.reduceEqDiff, and_false, false_and, if_false, and_self, true_and, and_true, if_true, ne]
        rw [d y h1 h2]
        congr 1
        by_cases hy : y ∈ V
        · rw [decide_eq_true hy, decide_eq_true (List.mem_append_left _ hy)]
        · rw [decide_eq_false hy, decide_eq_false (fun q => (List.mem_append.mp q).elim hy (fun q => ey (List.mem_singleton.mp q)))]
theorem Rw.kp (h : Rw A W w br nq nk np nh nr L0 z M0 M) {S : Nat} (hK : KB w nq nk np nh nr) {V' : RV} (hf : Fr S M M') (hS : S &&& F_Works_reach = S) (hl : lkOk S = true) (hc : S.testBit 77 = false ∧ S.testBit (cd 5 61) = false ∧ S.testBit 5077 = false ∧ S.testBit 5078 = false) (hV : rcV W V' M') : Rw A W w br nq nk np nh nr L0 (V', z.2) M0 M' := by
  refine ⟨⟨(h.1.1.fr hf hl).1, ?_⟩, h.2.1, h.2.2.1.trans (hf.sub hS), hV⟩
  obtain ⟨⟨a, b⟩, c⟩ := h.1.2
  exact ⟨⟨(hf.L (f := 77) hc.2.2.1 w).trans a, (hf.L (f := 78) hc.2.2.2 w).trans b⟩, fun i hi => by rw [hf.Ia (f := 77) rfl hc.1 w i, hf.I (f := 5) (k := 61) hc.2.1 w]; exact c i hi⟩
theorem Rw.cm (h : Rw A W w br nq nk np nh nr L0 z M0 M) (hK : KB w nq nk np nh nr) {V' : RV} (hf : Fr SRw M M') (hV : rcV W V' M') : Rw A W w br nq nk np nh nr L0 (V', z.2) M0 M' := h.kp hK hf rfl rfl ⟨rfl, rfl, rfl, rfl⟩ hV
/-- what comes, but for the classes from the beginning -/
theorem c_comesB (hK : KB w nq nk np nh nr) (h : Rw A W w br nq nk np nh nr L0 z M0 M) (hm : m.1 < W.length ∧ m.2 < (gc W m.1).2.2.2.2.2.length) (hQ : ∀ M', Rw A W w br nq nk np nh nr L0 (addV z.1 m, z.2) M0 M' → Q M') : w_Works_callsOf_j33 0 Q w (Int32.ofNat (moff W m.1 + m.2)) M := by
  have hcw := h.1.1.1
  obtain ⟨u1, u2, u3, u4, u5⟩ := hcw.mo (e := 0) hm.1
  obtain ⟨hH, -⟩ := hcw.2.1.2.2 m.1 hm.1 m.2 hm.2
  have f381 := hcw.2.1.1.2.1
  unfold w_Works_callsOf_j33 w_Works_isBuiltIn
  rw [oN_tnc (k := moff W m.1 + m.2) (by omega), hH.1]
  refine ⟨by rw [f381 55 (by omega) (by omega)]; exact (vp_oN (by omega)).mpr (by omega), ?_⟩
  unfold addV at hQ
  by_cases c21 : m.1 < 21
  · rw [if_pos c21] at hQ
    exact itn (nle_oN (a := 21) c21 (by omega)) (itn (by decide) (hQ M h))
  · rw [if_neg c21] at hQ
    exact itp (le_oN (a := 21) (by omega) (by omega)) (itp rfl (c_comes hcw h.2.2.2 hm (fun M' hf hV => hQ M' (h.cm hK hf hV))))
/-- the starts that would come -/
theorem c_startsOf (hB : BI W) (hnA : nA A) (hK : KB w nq nk np nh nr) (C : Nat → Int32) (hC : ∀ k, k < W.length → mI M0 46 w k = C k) (h21 : ∀ k, k < 21 → C k = 2) : ∀ n o z M, Rw A W w br nq nk np nh nr L0 z M0 M → (∀ d, o = some d → d < W.length ∧ (d = 0 ∨ (z.2.1 d = 1 ∧ rk W d < n))) → 0 < n → (∀ M', Rw A W w br nq nk np nh nr L0 (stsV W C n o z.1, z.2) M0 M' → Q M') → w_Works_startsOf_L2 0 Q n w (oC o) M := by
  intro n
  induction n with
  | zero => intro o z M _ _ h0; omega
  | succ n ih =>
    intro o z M h ho _ hQ
    unfold w_Works_startsOf_L2
    cases o with
    | none => exact itp (show (-2 : Int32) < 21 by decide) (hQ M h)
    | some d =>
      obtain ⟨hd, hl⟩ := ho d rfl
      have hcw := h.1.1.1
      have h51 : W.length ≤ 51 := hcw.1.1.1.1.2.2.1
      have e46 : mI M 46 w d = C d := (h.2.2.1.Ia (f := 46) rfl rfl w d).trans (hC d hd)
      have l46 : mL M 46 w = 51 := hcw.2.2.2.1.2.2.2.2.2.2 46 (by omega) (by omega)
      unfold stsV at hQ
      by_cases c21 : d < 21
      · rw [if_pos (h21 d c21)] at hQ
        exact itp (show Int32.ofNat d < 21 from lt_oN (b := 21) c21 (by omega)) (hQ M h)
      refine itn (show ¬ Int32.ofNat d < 21 from nlt_oN (b := 21) (by omega) (by omega)) ?_
      show vp_in (Int32.ofNat d) (mL M 46 w) ∧ (if mI M 46 w (Int32.ofNat d).toNatClampNeg = 2 then Q M else _)
      rw [oN_tnc (k := d) (by omega), e46, l46]
      refine ⟨(vp_oN (by omega)).mpr (by omega), ?_⟩
      by_cases c2 : C d = 2
      · rw [if_pos c2] at hQ
        exact itp c2 (hQ M h)
      rw [if_neg c2] at hQ
      refine itn c2 ?_
      have hl1 : z.2.1 d = 1 ∧ rk W d < n + 1 := by
        rcases hl with z' | z'
        · omega
        · exact z'
      have nx : ∀ z' M', z'.2 = z.2 → Rw A W w br nq nk np nh nr L0 z' M0 M' → (∀ M', Rw A W w br nq nk np nh nr L0 (stsV W C n (if isFc W d = true then none else upW W d) z'.1, z'.2) M0 M' → Q M') → w_Works_startsOf_j40 0 Q (w_Works_startsOf_L2 0 Q n) w (Int32.ofNat d) M' := by
        intro z' M' ez h' hQ'
        have hrk : 0 < rk W d := rk_pos hd
        have hn0 : 0 < n := by omega
        unfold w_Works_startsOf_j40 w_Works_startsOf_j58
        refine c_isFace h'.1.1.1.1.1 hd ?_
        cases ef : isFc W d with
        | true =>
          rw [ef, if_pos rfl] at hQ'
          exact itn (by decide) (ih none z' M' h' (fun _ q => by cases q) hn0 hQ')
        | false =>
          rw [ef, if_neg (by decide)] at hQ'
          refine itp rfl (c_up h'.1.1.1.1.1 hd ?_)
          refine ih (upW W d) z' M' h' (fun e he => ?_) hn0 hQ'
          obtain ⟨p, hp, hpl, hp2⟩ := h.2.1.1.1.up hd hl1.1 (by omega)
          rw [hp] at he
          cases he
          refine ⟨hpl, ?_⟩
          rw [ez]
          rcases hp2 with q | q
          · exact Or.inl q
          · exact Or.inr ⟨q.1, by omega⟩
      refine c_ownStart hcw hnA hd ?_
      cases eo : ownN nStart 0 (gc W d).2.2.2.2.2 with
      | none =>
        rw [eo] at hQ
        exact itp (show (-2 : Int32) < 0 by decide) (nx z M rfl h hQ)
      | some q =>
        rw [eo] at hQ
        dsimp only at hQ
        have hq := ownN_in eo
        have hm : d < W.length ∧ q < (gc W d).2.2.2.2.2.length := ⟨hd, by omega⟩
        have hq381 : moff W d + q < 381 := by
          obtain ⟨-, -, w3, -⟩ := hcw.mo (e := 0) hd
          omega
        have e1 : addV z.1 (d, q) = ins z.1 (d, q) := if_neg c21
        rw [e1] at hQ
        exact itn (show ¬ Int32.ofNat (moff W d + q) < 0 by rw [Int32.not_lt]; exact oN_zero_le (by omega)) (c_comes (m := (d, q)) hcw h.2.2.2 hm (fun M' hf hV => nx (ins z.1 (d, q), z.2) M' rfl (h.cm hK hf hV) hQ))
end
