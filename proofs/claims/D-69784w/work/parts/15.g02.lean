/-! THE MACHINE IN THE WORKS: all but the thread that acts; the trace -/
def lnF (f : Nat) : Bool := Nat.beq f 7 || (Nat.ble 89 f && Nat.ble f 95) || Nat.beq f 514
section
variable {A : List Nm} {W : List Cls} {w C B F t L : Nat} {br : Int32} {nq nk np nh nr : Nat} {s s' : Ms} {M M' M1 : Mem} {S : Nat} {l : Ln} {U : List Un}
theorem unR.eq {f : Nat} {u : Un} (h : unR W L f M u) (hI : ∀ g k, lnF g = true → mI M' g L k = mI M g L k) : unR W L f M' u := by
  cases u with
  | inl g =>
    obtain ⟨c, j, a, lo, st⟩ := g
    obtain ⟨⟨a1, a2, a3, a4⟩, b, c'⟩ := h
    refine ⟨⟨(hI 89 f rfl).trans a1, (hI 90 f rfl).trans a2, (hI 91 f rfl).trans a3, (hI 92 f rfl).trans a4⟩, fun k hk => ?_, fun k hk => ?_⟩
    · rw [hI 94 _ rfl, hI 514 _ rfl]; exact b k hk
    · rw [hI 94 _ rfl, hI 514 _ rfl]; exact c' k hk
  | inr g =>
    obtain ⟨k, own⟩ := g
    exact ⟨(hI 92 f rfl).trans h.1, (hI 93 f rfl).trans h.2⟩
theorem LU.eq (hI : ∀ g k, lnF g = true → mI M' g L k = mI M g L k) : ∀ {U : List Un}, LU W L M U → LU W L M' U
  | [], _ => trivial
  | _ :: _, h => ⟨h.1.eq hI, LU.eq hI h.2⟩
theorem rL.eq (h : rL L t l M) (hI : ∀ g k, lnF g = true → mI M' g L k = mI M g L k) (hL : ∀ g, lnF g = true → mL M' g L = mL M g L) : rL L t l M' := by
  obtain ⟨⟨a1, a2, a3, a4⟩, ⟨b1, b2', b3, b4⟩, ⟨c1, c2, c3, c4⟩, d, e⟩ := h
  refine ⟨⟨fun f h1 h2 => ?_, (hL 94 rfl).trans a2, (hL 514 rfl).trans a3, (hL 95 rfl).trans a4⟩, ⟨(hI 7 0 rfl).trans b1, (hI 7 10 rfl).trans b2', (hI 7 11 rfl).trans b3, (hI 7 12 rfl).trans b4⟩, ⟨(hI 7 13 rfl).trans c1, (hI 7 14 rfl).trans c2, (hI 7 15 rfl).trans c3, (hI 7 16 rfl).trans c4⟩, ?_, fun z k hk => (hI 95 k rfl).trans (e z k hk)⟩
  · refine (hL f ?_).trans (a1 f h1 h2)
    unfold lnF
    rw [Nat.ble_eq.mpr h1, Nat.ble_eq.mpr (show f ≤ 95 by omega)]; simp
  · unfold rW at *
    rw [hI 7 18 rfl, hI 7 19 rfl]; exact d
theorem rU.eq (h : rU W L U M) (hI : ∀ g k, lnF g = true → mI M' g L k = mI M g L k) : rU W L U M' := ⟨(hI 7 1 rfl).trans h.1, (hI 7 2 rfl).trans h.2.1, LU.eq hI h.2.2⟩
theorem rN.eq (h : rN A W w t l M) (hI : ∀ g k, lnF g = true → mI M' g (3 * w + t) k = mI M g (3 * w + t) k) (hL : ∀ g, lnF g = true → mL M' g (3 * w + t) = mL M g (3 * w + t)) (hR : ∀ k x, RfX A w t k x M → RfX A w t k x M') : rN A W w t l M' := ⟨h.1.eq hI hL, h.2.1.eq hI, fun z => hR _ _ (h.2.2 z)⟩
/-- all but the thread that acts -/
def RX (A : List Nm) (W : List Cls) (w : Nat) (br : Int32) (nq nk np nh nr C B F t : Nat) (s : Ms) (M : Mem) : Prop := (LKw A W w br nq nk np nh nr (zL s) M ∧ cSt w M) ∧ (rC W w s M ∧ rS W w s M) ∧ (rH w s M ∧ rFt w B F s M) ∧ (rE w s M ∧ rD w C s M ∧ rT w s M) ∧ (mR M 6 w 2 = some (7, 3 * w + t) ∧ mL M 700 w = 3 ∧ ∀ t', t' < 3 → mR M 700 w t' = some (7, 3 * w + t')) ∧ ∀ t', t' < 3 → t' ≠ t → rN A W w t' (zN s t') M
theorem RfX.fr {r : Nat} {k : Nm} {x : Mth} (h : RfX A w r k x M) (hf : Fr S M M') (hS : okF S [76, 211, 5076, 5211] = true := by rfl) : RfX A w r k x M' := by
  have o := fun {b : Nat} (hb : b ∈ [76, 211, 5076, 5211]) => okF_in hS hb
  obtain ⟨⟨a1, a2, a3, a4, a5⟩, b, c, d⟩ := h
  have e : ∀ i j, mI M' 76 i j = mI M 76 i j := fun i j => hf.Ia (f := 76) rfl (o (by simp)) i j
  have e2 : ∀ i j, mI M' 211 i j = mI M 211 i j := fun i j => hf.Ia (f := 211) rfl (o (by simp)) i j
  refine ⟨⟨by rw [e]; exact a1, by rw [e]; exact a2, by rw [e]; exact a3, by rw [e]; exact a4, fun i h1 h2 => by rw [e2]; exact a5 i h1 h2⟩, b, by rw [hf.L (f := 76) (o (by simp))]; exact c, by rw [hf.L (f := 211) (o (by simp))]; exact d⟩
/-- the cells of the thread that acts, and what a step keeps for itself -/
abbrev SLn : Nat := (271716135220527900227848059256329966269188730667858255345617461833675692451892279575480801266534047436882485905355623788636981972599445628815216342390874800570819846262508173326621606496819216825634798570604060785478890993832258455419792256927010089618151069832403379869080978959506466310311262951025748533376826231550260729219592750478366972119560260030320939504324806918549794862755735678395436890919337056852452016468261138179088212765133531023212850640298282279160309235861023807283030679553643046747403550659882429984021808209512823676223369808226554840525817292482429260358554793396555407437520746571756780984791068647037914149289304808660004027590865833833312460251944354763672021496086259528810728781101895293134964785152)
def AgT (w t : Nat) (M M' : Mem) : Prop := (Fr SLn M M' ∧ mS M' = mS M) ∧ ∀ f i k, i ≠ 3 * w + t → f ≠ 6 → mI M' f i k = mI M f i k
theorem AgT.rf : AgT w t M M := ⟨⟨Fr.rf _ _, rfl⟩, fun _ _ _ _ _ => rfl⟩
theorem AgT.trans (h : AgT w t M M1) (h1 : AgT w t M1 M') : AgT w t M M' := ⟨⟨h.1.1.trans h1.1.1, h1.1.2.trans h.1.2⟩, fun f i k a b => (h1.2 f i k a b).trans (h.2 f i k a b)⟩
theorem AgT.wa {f k : Nat} {v : Int32} (h : AgT w t M M1) (h20 : Nat.ble 20 f = true := by rfl) (hS : SLn.testBit f = true := by rfl) : AgT w t M (sI M1 f (3 * w + t) k v) := ⟨⟨Fr.wIa h20 hS h.1.1, h.1.2⟩, fun g i j a b => by rw [mI_sI, if_neg (fun z => a z.2.1)]; exact h.2 g i j a b⟩
theorem AgT.w7 {k : Nat} {v : Int32} (h : AgT w t M M1) (hS : SLn.testBit (cd 7 k) = true := by rfl) : AgT w t M (sI M1 7 (3 * w + t) k v) := ⟨⟨Fr.wI hS h.1.1, h.1.2⟩, fun g i j a b => by rw [mI_sI, if_neg (fun z => a z.2.1)]; exact h.2 g i j a b⟩
theorem AgT.w6 {k : Nat} {v : Int32} (h : AgT w t M M1) (hS : SLn.testBit (cd 6 k) = true := by rfl) : AgT w t M (sI M1 6 w k v) := ⟨⟨Fr.wI hS h.1.1, h.1.2⟩, fun g i j a b => by rw [mI_sI, if_neg (fun z => b z.1)]; exact h.2 g i j a b⟩
set_option maxRecDepth 4000 in
theorem RX.ag (h : RX A W w br nq nk np nh nr C B F t s M) (ha : AgT w t M M') : RX A W w br nq nk np nh nr C B F t s M' := by
  obtain ⟨⟨a1, a2⟩, ⟨b1, b2'⟩, ⟨c1, c2⟩, ⟨d1, d2, d3⟩, ⟨e1, e2, e3⟩, g⟩ := h
  have hf := ha.1.1
  refine ⟨⟨(a1.fr hf).1, a2.fr hf⟩, ⟨b1.fr hf, b2'.fr hf⟩, ⟨c1.fr hf, c2.fr hf ha.1.2⟩, ⟨d1.fr hf, d2.fr hf, d3.fr hf⟩, ⟨(hf.R (f := 6) (k := 2) rfl w).trans e1, (hf.L (f := 700) rfl w).trans e2, fun t' ht => (hf.Ra (f := 700) rfl rfl w t').trans (e3 t' ht)⟩, fun t' ht hne => ?_⟩
  refine (g t' ht hne).eq (fun f k hl => ha.2 f _ k (by omega) (fun z => by rw [z] at hl; cases hl)) (fun f hl => ?_) (fun k x hr => hr.fr hf)
  unfold lnF at hl
  rw [Bool.or_eq_true, Bool.or_eq_true, Bool.and_eq_true] at hl
  rcases hl with (z | z) | z
  · rw [Nat.eq_of_beq_eq_true z]; exact hf.L (f := 7) rfl _
  · have h1 := Nat.ble_eq.mp z.1
    have h2 := Nat.ble_eq.mp z.2
    have : f = 89 ∨ f = 90 ∨ f = 91 ∨ f = 92 ∨ f = 93 ∨ f = 94 ∨ f = 95 := by omega
    rcases this with z | z | z | z | z | z | z <;> rw [z]
    · exact hf.L (f := 89) rfl _
    · exact hf.L (f := 90) rfl _
    · exact hf.L (f := 91) rfl _
    · exact hf.L (f := 92) rfl _
    · exact hf.L (f := 93) rfl _
    · exact hf.L (f := 94) rfl _
    · exact hf.L (f := 95) rfl _
  · rw [Nat.eq_of_beq_eq_true z]; exact hf.L (f := 514) rfl _
/-- only the trace -/
abbrev SEv : Nat := (99051335396839952267800490127070258658250308506167925129302358469774933034739488795031313654649627104243513538134173024828523491812344162708226735216931373676553061658797832973061560745645073477766400014148446679580220022688329197378926561089433180600136052557976339611477640585229029071557398029494419345249933767002083844628780288321702769157940687204777874758293593254538229510114882530916705193402409393428502845874573722025161862180205039258322898107303769375029416049013704515388329780070190081282296509571083202456416111931679618776582998715233051862916030529272441360557354364241034659585545493124868344325906668112573226382486490477861456494518115587858041405440)
theorem rN.ev {t' : Nat} (h : rN A W w t' l M) (hf : Fr SEv M M') : rN A W w t' l M' := by
  have key : ∀ f, lnF f = true → (f = 7 ∨ f = 89 ∨ f = 90 ∨ f = 91 ∨ f = 92 ∨ f = 93 ∨ f = 94 ∨ f = 95 ∨ f = 514) := fun f hl => by
    unfold lnF at hl
    rw [Bool.or_eq_true, Bool.or_eq_true, Bool.and_eq_true] at hl
    rcases hl with (z | z) | z
    · exact Or.inl (Nat.eq_of_beq_eq_true z)
    · have h1 := Nat.ble_eq.mp z.1
      have h2 := Nat.ble_eq.mp z.2
      omega
    · have := Nat.eq_of_beq_eq_true z; omega
  have s7 : ∀ k, SEv.testBit (cd 7 k) = false := fun k => by
    show (1 &&& (SEv >>> (2400 + k)) != 0) = false
    rw [Nat.shiftRight_add, show SEv >>> 2400 = 0 from rfl, Nat.zero_shiftRight]; rfl
  refine h.eq (fun f k hl => ?_) (fun f hl => ?_) (fun k x hr => hr.fr hf)
  · rcases key f hl with z | z | z | z | z | z | z | z | z <;> rw [z]
    · exact hf.I (s7 k) _
    all_goals exact hf.Ia rfl rfl _ _
  · rcases key f hl with z | z | z | z | z | z | z | z | z <;> rw [z] <;> exact hf.L rfl _
theorem RX.l5 (h : RX A W w br nq nk np nh nr C B F t s M) : W.length ≤ 51 := h.1.1.1.1.1.1.1.2.2.1
/-- something comes to the trace -/
theorem c_event {what k : Nat} {m : Option Nat} {v : Int32} {Q : Mem → Prop} (h : RX A W w br nq nk np nh nr C B F t s M) (hE : (zE s).length ≤ 400) (hk : k < W.length) (h0 : mI M 7 (3 * w + t) 0 = Int32.ofNat t) (h12 : mI M 7 (3 * w + t) 12 = Int32.ofNat (lSp (zN s t))) (hv : (m = none ∧ v = -2) ∨ ∃ j, m = some j ∧ v = Int32.ofNat (moff W k + j) ∧ moff W k + j < 381) (hQ : ∀ M', RX A W w br nq nk np nh nr C B F t (evS s t what k m) M' → Fr SEv M M' → Q M') : w_Machine_event w (Int32.ofNat what) (Int32.ofNat k) v Q M := by
  have h51 := h.l5
  obtain ⟨⟨a1, a2⟩, ⟨b1, b2'⟩, ⟨c1, c2⟩, ⟨⟨d0, d1, d4⟩, d2, d3⟩, ⟨e1, e2, e3⟩, g⟩ := h
  unfold w_Machine_event
  rw [d1]
  by_cases cf : 400 ≤ (zE s).length
  · refine itp (le_oN (a := 400) cf (by omega)) (hQ M ?_ (Fr.rf _ _))
    have : evS s t what k m = s := by unfold evS; rw [if_neg (by omega)]
    rw [this]
    exact ⟨⟨a1, a2⟩, ⟨b1, b2'⟩, ⟨c1, c2⟩, ⟨⟨d0, d1, d4⟩, d2, d3⟩, ⟨e1, e2, e3⟩, g⟩
  have he : evS s t what k m = yE s (zE s ++ [(what, t, k, m, lSp (zN s t))]) := by unfold evS; rw [if_pos (by omega)]
  rw [he] at hQ
  refine itn (nle_oN (a := 400) (by omega) (by omega)) ?_
  generalize hn : (zE s).length = n at *
  have e5 : (5 : Int32) * Int32.ofNat n = Int32.ofNat (5 * n) := oN_mul 5 n
  rw [e5]
  have ea : ∀ j : Nat, Int32.ofNat (5 * n) + Int32.ofNat j = Int32.ofNat (5 * n + j) := fun j => oN_add _ _
  rw [lit32 1, lit32 2, lit32 3, ea 1, ea 2, ea 3]
  have vp : ∀ j, j < 5 → vp_in (Int32.ofNat (5 * n + j)) 2000 := fun j hj => (vp_oN (by omega)).mpr (by omega)
  have hmo := (a1.1.mo (e := 0) hk).1
  have l43 : mL M 43 w = 51 := a1.1.2.1.1.1.1
  have fin : ∀ x : Int32, x = oJ m → w_Machine_event_j80 w Q (Int32.ofNat (5 * n)) x (Int32.ofNat (5 * n + 3)) (sI (sI (sI M 87 w (5 * n) (Int32.ofNat what)) 87 w (5 * n + 1) (Int32.ofNat t)) 87 w (5 * n + 2) (Int32.ofNat k)) := fun x hx => by
    unfold w_Machine_event_j80
    rw [lit32 4, ea 4, oN_tnc (by omega), oN_tnc (by omega)]
    refine ⟨by show vp_in _ (mL M 87 w); rw [d0]; exact vp 3 (by omega), 3 * w + t, e1, by show vp_in _ (mL M 87 w); rw [d0]; exact vp 4 (by omega), _, rfl, ?_⟩
    have e29 : mI (sI (sI (sI (sI (sI M 87 w (5 * n) (Int32.ofNat what)) 87 w (5 * n + 1) (Int32.ofNat t)) 87 w (5 * n + 2) (Int32.ofNat k)) 87 w (5 * n + 3) x) 87 w (5 * n + 4) (mI (sI (sI (sI (sI M 87 w (5 * n) (Int32.ofNat what)) 87 w (5 * n + 1) (Int32.ofNat t)) 87 w (5 * n + 2) (Int32.ofNat k)) 87 w (5 * n + 3) x) 7 (3 * w + t) 12)) 6 w 29 = Int32.ofNat n := by
      simp only [mI_sI, Nat.reduceEqDiff, false_and, if_false]; exact d1
    have e12 : mI (sI (sI (sI (sI M 87 w (5 * n) (Int32.ofNat what)) 87 w (5 * n + 1) (Int32.ofNat t)) 87 w (5 * n + 2) (Int32.ofNat k)) 87 w (5 * n + 3) x) 7 (3 * w + t) 12 = Int32.ofNat (lSp (zN s t)) := by
      simp only [mI_sI, Nat.reduceEqDiff, false_and, if_false]; exact h12
    rw [e29, e12, lit32 1, oN_add]
    have hf : Fr SEv M (sI (sI (sI (sI (sI (sI M 87 w (5 * n) (Int32.ofNat what)) 87 w (5 * n + 1) (Int32.ofNat t)) 87 w (5 * n + 2) (Int32.ofNat k)) 87 w (5 * n + 3) x) 87 w (5 * n + 4) (Int32.ofNat (lSp (zN s t)))) 6 w 29 (Int32.ofNat (n + 1))) := Fr.wI rfl (Fr.wIa rfl rfl (Fr.wIa rfl rfl (Fr.wIa rfl rfl (Fr.wIa rfl rfl (Fr.wIa rfl rfl (Fr.rf _ _))))))
    refine hQ _ ⟨⟨(a1.fr hf).1, a2.fr hf⟩, ⟨b1.fr hf, b2'.fr hf⟩, ⟨c1.fr hf, c2.fr hf rfl⟩, ⟨⟨d0, ?_, fun i hi => ?_⟩, d2.fr hf, d3.fr hf⟩, ⟨e1, e2, e3⟩, fun t' ht hne => (g t' ht hne).ev hf⟩ hf
    · show _ = Int32.ofNat (zE s ++ [_]).length
      rw [List.length_append, List.length_singleton, hn, mI_sI, if_pos ⟨rfl, rfl, rfl⟩]
    · have hi : i < (zE s ++ [(what, t, k, m, lSp (zN s t))]).length := hi
      rw [List.length_append, List.length_singleton, hn] at hi
      show mI _ 87 w (5 * i) = Int32.ofNat ((zE s ++ [(what, t, k, m, lSp (zN s t))]).getD i (0, 0, 0, none, 0)).1 ∧ _
      by_cases ei : i < n
      · have eg : (zE s ++ [(what, t, k, m, lSp (zN s t))]).getD i (0, 0, 0, none, 0) = (zE s).getD i (0, 0, 0, none, 0) := by
          rw [List.getD_eq_getElem?_getD, List.getElem?_append_left (by omega), List.getD_eq_getElem?_getD]
        rw [show zE (yE s (zE s ++ [(what, t, k, m, lSp (zN s t))])) = zE s ++ [(what, t, k, m, lSp (zN s t))] from rfl, eg]
        have o : ∀ j, j < 5 → mI (sI (sI (sI (sI (sI (sI M 87 w (5 * n) (Int32.ofNat what)) 87 w (5 * n + 1) (Int32.ofNat t)) 87 w (5 * n + 2) (Int32.ofNat k)) 87 w (5 * n + 3) x) 87 w (5 * n + 4) (Int32.ofNat (lSp (zN s t)))) 6 w 29 (Int32.ofNat (n + 1))) 87 w (5 * i + j) = mI M 87 w (5 * i + j) := fun j hj => by
          rw [mI_sI, if_neg (by omega), mI_sI, if_neg (by omega), mI_sI, if_neg (by omega), mI_sI, if_neg (by omega), mI_sI, if_neg (by omega), mI_sI, if_neg (by omega)]
        have o0 := o 0 (by omega)
        rw [Nat.add_zero] at o0
        obtain ⟨q0, q1, q2, q3, q4⟩ := d4 i ei
        exact ⟨o0.trans q0, (o 1 (by omega)).trans q1, (o 2 (by omega)).trans q2, (o 3 (by omega)).trans q3, (o 4 (by omega)).trans q4⟩
      · have : i = n := by omega
        subst this
        have eg : (zE s ++ [(what, t, k, m, lSp (zN s t))]).getD i (0, 0, 0, none, 0) = (what, t, k, m, lSp (zN s t)) := by
          rw [List.getD_eq_getElem?_getD, List.getElem?_append_right (by omega), hn, Nat.sub_self]; rfl
        rw [show zE (yE s (zE s ++ [(what, t, k, m, lSp (zN s t))])) = zE s ++ [(what, t, k, m, lSp (zN s t))] from rfl, eg]
        simp only [mI_sI, Nat.reduceEqDiff, false_and, if_false, true_and]
        refine ⟨?_, ?_, ?_, ?_, ?_⟩
        · rw [if_neg (by omega), if_neg (by omega), if_neg (by omega), if_neg (by omega), if_pos trivial]
        · rw [if_neg (by omega), if_neg (by omega), if_neg (by omega), if_pos trivial]
        · rw [if_neg (by omega), if_neg (by omega), if_pos trivial]
        · rw [if_neg (by omega), if_pos trivial]; exact hx
        · rw [if_pos trivial]
  have e7 : ∀ v', mI (sI M 87 w (5 * n) v') 7 (3 * w + t) 0 = Int32.ofNat t := fun v' => by rw [mI_sI, if_neg (fun z => absurd z.1 (by decide))]; exact h0
  have v0 := vp 0 (by omega)
  rw [Nat.add_zero] at v0
  refine ⟨by rw [d0]; exact v0, 3 * w + t, e1, by show vp_in _ (mL M 87 w); rw [d0]; exact vp 1 (by omega), _, rfl, by show vp_in _ (mL M 87 w); rw [d0]; exact vp 2 (by omega), _, rfl, ?_⟩
  rw [oN_tnc (by omega), oN_tnc (by omega), oN_tnc (by omega), e7]
  rcases hv with ⟨z1, z2⟩ | ⟨j, z1, z2, z3⟩
  · rw [z2]
    refine itn (by decide) (fin (-2) (by rw [z1]; rfl))
  · rw [z2]
    refine itp (oN_zero_le (by omega)) ⟨by show vp_in _ (mL M 43 w); rw [l43]; exact (vp_oN (by omega)).mpr (by omega), ?_⟩
    have e43 : mI (sI (sI (sI M 87 w (5 * n) (Int32.ofNat what)) 87 w (5 * n + 1) (Int32.ofNat t)) 87 w (5 * n + 2) (Int32.ofNat k)) 43 w (Int32.ofNat k).toNatClampNeg = Int32.ofNat (moff W k) := by
      rw [oN_tnc (by omega)]
      simp only [mI_sI, Nat.reduceEqDiff, false_and, if_false]; exact hmo
    rw [e43, oN_sub (by omega), show moff W k + j - moff W k = j by omega]
    exact fin _ (by rw [z1]; rfl)
end
