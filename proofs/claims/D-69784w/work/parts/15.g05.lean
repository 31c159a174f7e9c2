/-! THE MACHINE IN THE WORKS: a handler takes what is thrown -/
section
variable {W : List Cls} {c : Nat} {x : Mth} {s : Ms} {t : Nat}
theorem sq_st (h : (chkM W c x).1 = 0) : ∀ a, a ≤ (co x).length → (sqS W c x a).2.2 = true → (sqS W c x a).2.1.length ≤ sr x
  | 0, _, _ => Nat.zero_le _
  | a + 1, ha, h2 => by
    obtain ⟨s', e1, e2, e3, e4⟩ := chk_at h (show a < (co x).length by omega)
    obtain ⟨q1, q2, q3, q4, q5, -, g⟩ := stepS_in e1
    by_cases c1 : goesOn (gin (co x) a).1
    · rw [e2, g c1]; exact q4
    · rw [e2] at h2
      unfold stepS at e1
      rw [if_neg (fun z => z q1), if_neg (fun z => z q2), if_neg (fun z => z q3), if_neg (by omega), if_neg (fun z => z q5), if_neg (fun z => c1 z.1), if_neg c1] at e1
      cases e1; cases h2
theorem kAt_st (h : (chkM W c x).1 = 0) {a : Nat} (ha : a < (co x).length) : (kAt W c x a).2.length ≤ sr x := by
  obtain ⟨s', e1, e2, e3, e4⟩ := chk_at h ha
  unfold kAt
  cases ef : frOf x a with
  | none => exact sq_st h a (by omega) (e3 ef)
  | some f => exact (wrongF_in (e4 f ef).1).2
theorem UO.stk (hW : WO W) (hG : GL W s) : ∀ {U : List Un} {o : Option Kd}, UO W s t o U → stk U
  | [], _, _ => trivial
  | .inl f :: U, o, h => by
    obtain ⟨hck, hb, -⟩ := h.1.in hW hG
    have h1 := kAt_st hck h.1.2.2.1
    refine ⟨?_, UO.stk hW hG h.2.2⟩
    cases o with
    | none => have := h.2.1.2.1; omega
    | some κ =>
      have := h.2.1.2.2.1
      have h2 : (kRs W f.1 (gmt (gc W f.1) f.2.1) f.2.2.1).length ≤ (kAt W f.1 (gmt (gc W f.1) f.2.1) f.2.2.1).2.length := by
        show (List.take _ _).length ≤ _
        rw [List.length_take]; omega
      omega
  | .inr k :: U, o, h => UO.stk hW hG (U := U) h.2.2
end
section
variable {A : List Nm} {W : List Cls} {w C B F t L : Nat} {br : Int32} {nq nk np nh nr : Nat} {s s' : Ms} {M M' M1 : Mem} {S : Nat} {l : Ln} {U V : List Un} {r : Int32} {c j a : Nat} {lo st : List Vl} {o : Option Kd}
theorem RX.su (h : RX A W w br nq nk np nh nr C B F t s M) : RX A W w br nq nk np nh nr C B F t (sU s t V) M := by
  obtain ⟨a, b, c, d, e, g⟩ := h
  refine ⟨a, b, c, d, e, fun t' ht hne => ?_⟩
  have : zN (sU s t V) t' = zN s t' := up1_o hne
  rw [this]; exact g t' ht hne
theorem sU_N : zN (sU s t V) t = qU (zN s t) V := up1_s
theorem rL.g (h : rL L t l M) (h7 : ∀ k, mI M' 7 L k = mI M 7 L k) (h95 : ∀ k, mI M' 95 L k = mI M 95 L k) (hl : ∀ f, mL M' f L = mL M f L) : rL L t l M' := by
  obtain ⟨⟨a1, a2, a3, a4⟩, ⟨b1, b2', b3, b4⟩, ⟨c1, c2, c3, c4⟩, d, e⟩ := h
  refine ⟨⟨fun f h1 h2 => (hl f).trans (a1 f h1 h2), (hl 94).trans a2, (hl 514).trans a3, (hl 95).trans a4⟩, ⟨(h7 0).trans b1, (h7 10).trans b2', (h7 11).trans b3, (h7 12).trans b4⟩, ⟨(h7 13).trans c1, (h7 14).trans c2, (h7 15).trans c3, (h7 16).trans c4⟩, ?_, fun z k hk => (h95 k).trans (e z k hk)⟩
  unfold rW at *
  rw [h7 18, h7 19]; exact d
theorem RM.n (h : RM A W w br nq nk np nh nr C B F t s U M) : rN A W w t (qU (zN s t) U) M := ⟨h.2.1, h.2.2.1, h.2.2.2⟩
theorem RM.of (h : RX A W w br nq nk np nh nr C B F t s M) (hn : rN A W w t (qU (zN s t) U) M) : RM A W w br nq nk np nh nr C B F t s U M := ⟨h, hn.1, hn.2.1, hn.2.2⟩
theorem ev_N {t' what k : Nat} {m : Option Nat} : zN (evS s t' what k m) = zN s := evS_r.2.2.2.2.2.2.2.1
/-- something of a method comes to the trace -/
theorem k_mev {what : Nat} {Q : Mem → Prop} (h : RM A W w br nq nk np nh nr C B F t s U M) (hE : (zE s).length ≤ 400) (hc : c < W.length) (hj : j < (gc W c).2.2.2.2.2.length) (hQ : ∀ M', RM A W w br nq nk np nh nr C B F t (evS s t what c (some j)) U M' → Fr SEv M M' → Q M') : w_Machine_methodEvent w (Int32.ofNat what) (Int32.ofNat (moff W c + j)) Q M := by
  have hcw := h.1.1.1.1
  obtain ⟨-, -, m3, -, -⟩ := hcw.mo (e := 0) hc
  have hH := (hcw.2.1.2.2 c hc j hj).1
  unfold w_Machine_methodEvent
  rw [oN_tnc (by omega), hH.1, hcw.2.1.1.2.1 55 (by omega) (by omega)]
  refine ⟨(vp_oN (by omega)).mpr (by omega), c_event h.1 hE hc h.2.1.2.1.1 h.2.1.2.1.2.2.2 (Or.inr ⟨j, rfl, rfl, by omega⟩) (fun M' h' hf => hQ M' (RM.of h' ?_) hf)⟩
  rw [ev_N]; exact h.n.ev hf
theorem k_cev {what k : Nat} {Q : Mem → Prop} (h : RM A W w br nq nk np nh nr C B F t s U M) (hE : (zE s).length ≤ 400) (hc : k < W.length) (hQ : ∀ M', RM A W w br nq nk np nh nr C B F t (evS s t what k none) U M' → Fr SEv M M' → Q M') : w_Machine_event w (Int32.ofNat what) (Int32.ofNat k) (-2) Q M := by
  refine c_event h.1 hE hc h.2.1.2.1.1 h.2.1.2.1.2.2.2 (Or.inl ⟨rfl, rfl⟩) (fun M' h' hf => hQ M' (RM.of h' ?_) hf)
  rw [ev_N]; exact h.n.ev hf
theorem c_set {k : Nat} {v : Int32} {b : Bool} {Q : Mem → Prop} (hR : mR M 6 w 2 = some (7, L)) (h94 : mL M 94 L = 3640) (h514 : mL M 514 L = 3640) (hk : k < 3640) (hQ : Q (sI (sI M 94 L k v) 514 L k (b2 b))) : w_Machine_set w (Int32.ofNat k) v (b2 b) Q M := by
  unfold w_Machine_set
  rw [oN_tnc (by omega)]
  refine ⟨L, hR, by rw [h94]; exact (vp_oN (by omega)).mpr hk, L, hR, by show vp_in _ (mL M 514 L); rw [h514]; exact (vp_oN (by omega)).mpr hk, _, rfl, ?_⟩
  rw [show b2 b &&& 1 = b2 b by cases b <;> rfl]
  exact hQ
theorem catH_c {at' k : Nat} {x : Hnd} {l : List Hnd} : catH W at' k (x :: l) = if at' < x.1 ∨ x.2.1 ≤ at' then catH W at' k l else match (if x.2.2.2 = nAny then some 0 else fnd W x.2.2.2) with
    | none => catH W at' k l
    | some d => if bel W k d then some x.2.2.1 else catH W at' k l := rfl
/-- a handler -/
theorem c_handled {Q : Int32 → Mem → Prop} (hW : WO W) (hK : KB w nq nk np nh nr) (hA : nA A) (h : RM A W w br nq nk np nh nr C B F t s (.inl (c, j, a, lo, st) :: U) M) (hM : MO W s t o (.inl (c, j, a, lo, st) :: U)) (hr : thO W s r) (h0 : r ≠ 0)
    (hQ0 : catH W a (clN s r) (hs (gmt (gc W c) j)) = none → ∀ M', RM A W w br nq nk np nh nr C B F t s (.inl (c, j, a, lo, st) :: U) M' → Q 0 M')
    (hQ1 : ∀ g, catH W a (clN s r) (hs (gmt (gc W c) j)) = some g → ∀ M', RM A W w br nq nk np nh nr C B F t (evS (sU s t (.inl (c, j, g, lo, [(r, true)]) :: U)) t 7 c (some j)) (.inl (c, j, g, lo, [(r, true)]) :: U) M' → Q 1 M') : w_Machine_handled w (Int32.ofNat U.length) r Q M := by
  have h51 := h.1.l5
  have hlen := hM.2.2.2.1.len hW
  have hlen : U.length + 1 ≤ 91 := hlen
  obtain ⟨⟨hF, hU, hR⟩, hnd, hfr⟩ := hM.2.2.2.1
  obtain ⟨hck, hb, hwf, -, -⟩ := hF.in hW hM.1.1
  have hc : c < W.length := hF.1.2.1
  have hj : j < (gc W c).2.2.2.2.2.length := hF.2.1
  have ha : a < (co (gmt (gc W c) j)).length := hF.2.2.1
  have hcw := h.1.1.1.1
  obtain ⟨-, -, m3, -, -⟩ := hcw.mo (e := 0) hc
  obtain ⟨e, he, hce, hel, hpb⟩ := hr.cl
  have hstk := UO.stk hW hM.1.1 hM.2.2.2.1.1
  have hLb := L_le w
  have hKb := hK
  unfold KB at hKb
  have hsh := h.2.2.1
  have l89 := h.2.1.1.1 89 (by omega) (by omega)
  unfold w_Machine_handled
  refine ⟨3 * w + t, h.1.2.2.2.2.1.1, by rw [l89]; exact (vp_oN (by omega)).mpr (by omega), (hs (gmt (gc W c) j)).length + 1, ?_⟩
  rw [oN_tnc (by omega), hsh.2.2.1.1.1]
  have loop : ∀ n k M1, (hs (gmt (gc W c) j)).length - k < n → k ≤ (hs (gmt (gc W c) j)).length → RM A W w br nq nk np nh nr C B F t s (.inl (c, j, a, lo, st) :: U) M1 → catH W a (clN s r) (hs (gmt (gc W c) j)) = catH W a (clN s r) ((hs (gmt (gc W c) j)).drop k) → w_Machine_handled_L13 w Q n (Int32.ofNat U.length) r (Int32.ofNat (moff W c + j)) (Int32.ofNat k) M1 := by
    intro n
    induction n with
    | zero => intro k M1 hn; exact absurd hn (by omega)
    | succ n ih =>
      intro k M1 hn hk h1 hcat
      have hcw1 := h1.1.1.1.1
      have f381 := hcw1.2.1.1.2.1
      obtain ⟨q0, h0', ⟨-, -, -, -, c64, c65, c5, c6⟩, -, cfh⟩ := (hcw1.2.1.2.2 c hc j hj).2
      have c6 : (hs (gmt (gc W c) j)).length ≤ 8 := c6
      have c5 : h0' + (hs (gmt (gc W c) j)).length ≤ nh := c5
      have l75 : mL M1 75 w = L75 w := hcw1.2.2.2.1.2.2.2.1
      have R2 : mR M1 6 w 2 = some (7, 3 * w + t) := h1.1.2.2.2.2.1.1
      have l90 := h1.2.1.1.1 90 (by omega) (by omega)
      have l91 := h1.2.1.1.1 91 (by omega) (by omega)
      unfold w_Machine_handled_L13
      rw [oN_tnc (k := moff W c + j) (by omega), c65, f381 65 (by omega) (by omega)]
      refine ⟨(vp_oN (by omega)).mpr (by omega), ?_⟩
      by_cases ck : (hs (gmt (gc W c) j)).length ≤ k
      · rw [List.drop_of_length_le ck] at hcat
        exact itp (le_oN (by omega) (by omega)) (hQ0 hcat M1 h1)
      have hkl : k < (hs (gmt (gc W c) j)).length := by omega
      have key : ∃ hd, (hs (gmt (gc W c) j)).drop k = hd :: (hs (gmt (gc W c) j)).drop (k + 1) ∧ cFh A w (h0' + k) hd M1 ∧ wfH (co (gmt (gc W c) j)).length hd := by
        refine ⟨ghn (hs (gmt (gc W c) j)) k, ?_, cfh k hkl, hwf.2.2.2.1.2 _ (getD_mem (d := (0, 0, 0, [])) hkl)⟩
        rw [List.drop_eq_getElem_cons hkl]
        congr 1
        show _ = List.getD _ _ _
        rw [List.getD_eq_getElem?_getD, List.getElem?_eq_getElem hkl]; rfl
      obtain ⟨hd, ed, ⟨fh0, fh1, fh2, fh3, fh4⟩, hwh⟩ := key
      rw [ed, catH_c] at hcat
      have hco : (co (gmt (gc W c) j)).length ≤ 80 := hwf.2.2.1.1
      refine itn (nle_oN (by omega) (by omega)) ?_
      rw [c64, oN_add, show (4 : Int32) * Int32.ofNat (h0' + k) = Int32.ofNat (4 * (h0' + k)) from oN_mul 4 _]
      have e1 : Int32.ofNat (4 * (h0' + k)) + (1 : Int32) = Int32.ofNat (4 * (h0' + k) + 1) := oN_add _ 1
      have e3 : Int32.ofNat (4 * (h0' + k)) + (3 : Int32) = Int32.ofNat (4 * (h0' + k) + 3) := oN_add _ 3
      rw [e1, e3, oN_tnc (k := U.length) (by omega), oN_tnc (k := 4 * (h0' + k)) (by omega), oN_tnc (k := 4 * (h0' + k) + 1) (by omega), oN_tnc (k := 4 * (h0' + k) + 3) (by omega), fh0, fh1, fh3, l75]
      have v75 : ∀ i, i < 4 → vp_in (Int32.ofNat (4 * (h0' + k) + i)) (L75 w) := fun i hi => (vp_oN (by omega)).mpr (by omega)
      have v0 := v75 0 (by omega)
      rw [Nat.add_zero] at v0
      have next : catH W a (clN s r) (hs (gmt (gc W c) j)) = catH W a (clN s r) ((hs (gmt (gc W c) j)).drop (k + 1)) → ∀ M2, RM A W w br nq nk np nh nr C B F t s (.inl (c, j, a, lo, st) :: U) M2 → w_Machine_handled_j212 w Q (w_Machine_handled_L13 w Q n) (Int32.ofNat U.length) r (Int32.ofNat (moff W c + j)) (Int32.ofNat k) M2 := fun hx M2 h2 => by
        unfold w_Machine_handled_j212
        rw [show Int32.ofNat k + (1 : Int32) = Int32.ofNat (k + 1) from oN_add k 1]
        exact ih (k + 1) M2 (by omega) (by omega) h2 hx
      have take : ∀ d M2, catH W a (clN s r) (hs (gmt (gc W c) j)) = (if bel W (clN s r) d then some hd.2.2.1 else catH W a (clN s r) ((hs (gmt (gc W c) j)).drop (k + 1))) → d < W.length → RM A W w br nq nk np nh nr C B F t s (.inl (c, j, a, lo, st) :: U) M2 → mI M2 75 w (4 * (h0' + k) + 2) = Int32.ofNat hd.2.2.1 → w_Machine_handled_j132 w Q (w_Machine_handled_L13 w Q n) (Int32.ofNat U.length) r (Int32.ofNat (moff W c + j)) (Int32.ofNat k) (Int32.ofNat (4 * (h0' + k))) (Int32.ofNat d) M2 := fun d M2 hx hdl h2 h75 => by
        unfold w_Machine_handled_j132
        refine itn (oN_nonneg (by omega)) (c_classOf h2.1.2.2.1.1 h2.1.2.2.1.2 hr.1 h0 ?_)
        rw [he]
        refine k_isBelow h2.1.1.1.1.1.1 h2.1.1.2 hel.1 (by omega) (fun M3 b hb' hS3 sp => ?_)
        have h3 := h2.sp sp hS3 hK
        have hbb : b = bel W (clN s r) d := by
          rw [hce]
          cases b with
          | true => exact (bel_iff.mpr (hb'.mp rfl)).symm
          | false =>
            cases eb : bel W e d with
            | false => rfl
            | true => have := hb'.mpr (bel_iff.mp eb); cases this
        rw [← hbb] at hx
        cases b with
        | false => exact itp rfl (next hx M3 h3)
        | true =>
          rw [if_pos rfl] at hx
          refine itn (by decide) ?_
          have R3 : mR M3 6 w 2 = some (7, 3 * w + t) := h3.1.2.2.2.2.1.1
          have l75' : mL M3 75 w = L75 w := h3.1.1.1.1.2.2.2.1.2.2.2.1
          have l90' := h3.2.1.1.1 90 (by omega) (by omega)
          have l91' := h3.2.1.1.1 91 (by omega) (by omega)
          have e2 : Int32.ofNat (4 * (h0' + k)) + (2 : Int32) = Int32.ofNat (4 * (h0' + k) + 2) := oN_add _ 2
          have h75' : mI M3 75 w (4 * (h0' + k) + 2) = Int32.ofNat hd.2.2.1 := (sp.1.Ia (f := 75) rfl rfl w _).trans h75
          rw [e2, oN_tnc (k := 4 * (h0' + k) + 2) (by omega), oN_tnc (k := U.length) (by omega), h75',  lit32 20, show (40 : Int32) * Int32.ofNat U.length = Int32.ofNat (40 * U.length) from oN_mul 40 _, oN_add]
          refine ⟨3 * w + t, R3, by rw [l75']; exact v75 2 (by omega), by rw [l90']; exact (vp_oN (by omega)).mpr (by omega), _, rfl, 3 * w + t, R3, by show vp_in _ (mL M3 91 (3 * w + t)); rw [l91']; exact (vp_oN (by omega)).mpr (by omega), ?_⟩
          refine c_set (b := true) R3 h3.2.1.1.2.1 h3.2.1.1.2.2.1 (by omega) ?_
          generalize hg : hd.2.2.1 = g at hx h75' ⊢
          have ag : AgT w t M3 (sI (sI (sI (sI M3 90 (3 * w + t) U.length (Int32.ofNat g)) 91 (3 * w + t) U.length 1) 94 (3 * w + t) (40 * U.length + 20) r) 514 (3 * w + t) (40 * U.length + 20) (b2 true)) := (((AgT.rf.wa).wa).wa).wa
          have hX := (h3.1.ag ag).su (V := .inl (c, j, g, lo, [(r, true)]) :: U)
          have hn' : RM A W w br nq nk np nh nr C B F t (sU s t (.inl (c, j, g, lo, [(r, true)]) :: U)) (.inl (c, j, g, lo, [(r, true)]) :: U) (sI (sI (sI (sI M3 90 (3 * w + t) U.length (Int32.ofNat g)) 91 (3 * w + t) U.length 1) 94 (3 * w + t) (40 * U.length + 20) r) 514 (3 * w + t) (40 * U.length + 20) (b2 true)) := by
            refine ⟨hX, ?_, ⟨?_, ?_, ⟨⟨?_, ?_, ?_, ?_⟩, fun i hi => ?_, fun i hi => ?_⟩, ?_⟩, ?_⟩
            · rw [sU_N]
              refine rL.g (l := qU (zN s t) _) h3.2.1 (fun i => ?_) (fun i => ?_) (fun f => rfl)
              · simp only [mI_sI, Nat.reduceEqDiff, false_and, if_false]
              · simp only [mI_sI, Nat.reduceEqDiff, false_and, if_false]
            · simp only [mI_sI, Nat.reduceEqDiff, false_and, if_false]; exact h3.2.2.1.1
            · simp only [mI_sI, Nat.reduceEqDiff, false_and, if_false]; exact h3.2.2.1.2.1
            · simp only [mI_sI, Nat.reduceEqDiff, false_and, if_false]; exact h3.2.2.1.2.2.1.1.1
            · simp only [mI_sI, Nat.reduceEqDiff, false_and, if_false, and_self, if_true]
            · simp only [mI_sI, Nat.reduceEqDiff, false_and, if_false, and_self, if_true]; rfl
            · simp only [mI_sI, Nat.reduceEqDiff, false_and, if_false]; exact h3.2.2.1.2.2.1.1.2.2.2
            · have hh := h3.2.2.1.2.2.1.2.1 i hi
              simp only [mI_sI, Nat.reduceEqDiff, false_and, if_false, true_and]
              rw [if_neg (by omega), if_neg (by omega)]; exact hh
            · have : i = 0 := by simpa using hi
              subst this
              simp only [mI_sI, Nat.reduceEqDiff, false_and, if_false, true_and, Nat.add_zero, if_true]
              exact ⟨rfl, rfl⟩
            · have hst2 : stk U := hstk.2
              refine LU.kp (n := U.length) (fun g' f h1' h2' h3' => ?_) (fun i hi => ?_) h3.2.2.1.2.2.2 hst2 (Nat.le_refl _)
              · rw [mI_sI, if_neg (by omega), mI_sI, if_neg (by omega), mI_sI, if_neg (by omega), mI_sI, if_neg (by omega)]
              · constructor
                · rw [mI_sI, if_neg (by omega), mI_sI, if_neg (by omega), mI_sI, if_neg (by omega), mI_sI, if_neg (by omega)]
                · rw [mI_sI, if_neg (by omega), mI_sI, if_neg (by omega), mI_sI, if_neg (by omega), mI_sI, if_neg (by omega)]
            · rw [sU_N]
              exact fun z => (h3.2.2.2 z).fr ag.1.1
          exact k_mev (what := 7) hn' hM.1.2.1 hc hj (fun M4 h4 _ => hQ1 g hx M4 h4)
      refine ⟨by rw [f381 64 (by omega) (by omega)]; exact (vp_oN (by omega)).mpr (by omega), 3 * w + t, R2, by rw [l90]; exact (vp_oN (by omega)).mpr (by omega), v0, ?_⟩
      rw [h1.2.2.1.2.2.1.1.2.1]
      by_cases b1 : a < hd.1
      · rw [if_pos (Or.inl b1)] at hcat
        exact itp (lt_oN b1 (by have := hwh.1; omega)) (next hcat M1 h1)
      refine itn (nlt_oN (by omega) (by omega)) ⟨3 * w + t, R2, by rw [l90]; exact (vp_oN (by omega)).mpr (by omega), v75 1 (by omega), ?_⟩
      rw [h1.2.2.1.2.2.1.1.2.1]
      by_cases b2' : a < hd.2.1
      · rw [if_neg (by omega)] at hcat
        refine itp (lt_oN b2' (by have := hwh.2.1; omega)) ⟨v75 3 (by omega), ?_⟩
        have nm := nc_inj (A := A) (by have := hA.1; omega) fh4 hA.any.2
        rw [hA.any.1] at nm
        by_cases bn : hd.2.2.2 = nAny
        · rw [if_pos bn] at hcat
          exact itp (nm.mpr bn) (take 0 M1 hcat (by have := hW.1.1; omega) h1 fh2)
        · rw [if_neg bn] at hcat
          refine itn (fun z => bn (nm.mp z)) ⟨v75 3 (by omega), c_find hcw1.1.1.1 fh4 ?_⟩
          cases ef : fnd W hd.2.2.2 with
          | none =>
            rw [ef] at hcat
            unfold w_Machine_handled_j132
            exact itp (show (-2 : Int32) < 0 by decide) (next hcat M1 h1)
          | some d =>
            rw [ef] at hcat
            exact take d M1 hcat (fnd_lt ef) h1 fh2
      · rw [if_pos (Or.inr (by omega))] at hcat
        exact itn (nlt_oN (by omega) (by omega)) (next hcat M1 h1)
  exact loop _ 0 M (by omega) (by omega) h rfl
end
