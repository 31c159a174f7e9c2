/-! THE MACHINE IN THE TWIN: what is thrown goes down -/
section
variable {G : List Sl} {US : UST} {A : List Nm} {S : List Sg} {W : List Cls} {w c j a k t L : Nat} {br x r : Int32} {bb : Bool} {nq nl nf nk B F : Nat} {M M' : Mem} {s : Ms} {U V : List Un} {lo st lo' st' : List Vl} {o : Option Kd}
theorem catH_drop {at' e : Nat} {H : List Hnd} {i : Nat} (h : i < H.length) : catH W at' e (H.drop i) = if at' < (ghn H i).1 ∨ (ghn H i).2.1 ≤ at' then catH W at' e (H.drop (i + 1)) else match (if (ghn H i).2.2.2 = nAny then some 0 else fnd W (ghn H i).2.2.2) with
    | none => catH W at' e (H.drop (i + 1))
    | some d => if bel W e d then some (ghn H i).2.2.1 else catH W at' e (H.drop (i + 1)) := by
  have e1 : H.drop i = ghn H i :: H.drop (i + 1) := by
    rw [List.drop_eq_getElem_cons h]
    congr 1
    show _ = H.getD i _
    rw [List.getD_eq_getElem?_getD, List.getElem?_eq_getElem h]; rfl
  rw [e1]; rfl
/-- whether a handler of a frame takes it -/
theorem ct_handlerOf {Q : Int32 → Mem → Prop} (hW : WO W) (hM : MO W s t o (.inl (c, j, a, lo', st') :: U)) (h : TM G US A S W w br nq nl nf nk B F x bb t s (.inl (c, j, a, lo, st) :: U) M) (hFb : F < 1000000) (hr : thO W s r) (h0 : r ≠ 0) (hQ0 : catH W a (clN s r) (hs (gmt (gc W c) j)) = none → Q (-2) M) (hQ1 : ∀ g i, catH W a (clN s r) (hs (gmt (gc W c) j)) = some g → i < 4896 → mI M 154 w i = Int32.ofNat g → Q (Int32.ofNat i) M) : w_Model_handlerOf 0 (Int32.ofNat (frs U)) (tr true r) Q M := by
  obtain ⟨⟨hF1, hF2, hUO⟩, hnd, hfr⟩ := hM.2.2.2.1
  have hc : c < W.length := hF1.1.2.1
  have hj : j < (gc W c).2.2.2.2.2.length := hF1.2.1
  have ha : a < (co (gmt (gc W c) j)).length := hF1.2.2.1
  have hb := h.1.1.1
  have h51 := hb.l51
  have h12 := (hb.mcn hc).2
  have hfr : frs U + 1 ≤ 40 := hfr
  have R5 := hb.r45
  have R6 := h.1.2.2.2.2.1.1
  obtain ⟨⟨l0, l1, l2, l3, l4, l5, l6, l7⟩, -⟩ := h.2.1
  obtain ⟨⟨-, e173, e174, -⟩, -⟩ := h.2.2.1.2.2
  have e173 : mI M 173 (3 * w + t) (frs U) = Int32.ofNat (12 * c + j) := e173
  have e174 : mI M 174 (3 * w + t) (frs U) = Int32.ofNat a := e174
  obtain ⟨q0, -, -, ⟨-, h80⟩, -, ⟨e151, h8⟩, hH⟩ := hb.ms.2.2 c hc j hj
  have h80 : (co (gmt (gc W c) j)).length ≤ 80 := h80
  have l15 := hb.ms.2.1
  obtain ⟨e, he, hce, ⟨hel, hll⟩, hpb⟩ := hr.cl
  have hI := hM.1.1.1.1
  unfold w_Model_handlerOf
  refine ⟨3 * w + t, R6, by rw [l3]; exact (vp_oN (by omega)).mpr (by omega), 3 * w + t, R6, by rw [l4]; exact (vp_oN (by omega)).mpr (by omega), (hs (gmt (gc W c) j)).length + 1, ?_⟩
  rw [oN_tnc (k := frs U) (by omega), e173, e174, show (8 : Int32) * Int32.ofNat (12 * c + j) = Int32.ofNat (8 * (12 * c + j) + 0) from oN_mul 8 _]
  have loop : ∀ m i, (hs (gmt (gc W c) j)).length - i < m → i ≤ (hs (gmt (gc W c) j)).length → catH W a (clN s r) (hs (gmt (gc W c) j)) = catH W a (clN s r) ((hs (gmt (gc W c) j)).drop i) → w_Model_handlerOf_L27 0 Q m (tr true r) (Int32.ofNat (12 * c + j)) (Int32.ofNat a) (Int32.ofNat (8 * (12 * c + j) + i)) M := by
    intro m
    induction m with
    | zero => intro i hm; exact absurd hm (by omega)
    | succ m ihm =>
      intro i hm hi he'
      unfold w_Model_handlerOf_L27
      refine ⟨w, R5, by rw [hb.ml (f := 151) (by omega) (by omega)]; exact (vp_oN (by omega)).mpr (by omega), ?_⟩
      rw [oN_tnc (k := 12 * c + j) (by omega), e151, show (8 : Int32) * Int32.ofNat (12 * c + j) = Int32.ofNat (8 * (12 * c + j)) from oN_mul 8 _, oN_add]
      have h8 : (hs (gmt (gc W c) j)).length ≤ 8 := h8
      by_cases ci : (hs (gmt (gc W c) j)).length ≤ i
      · rw [List.drop_of_length_le ci] at he'
        exact itp (le_oN (by show 8 * (12 * c + j) + (hs (gmt (gc W c) j)).length ≤ _; omega) (by omega)) (hQ0 he')
      have hil : i < (hs (gmt (gc W c) j)).length := by omega
      refine itn (nle_oN (by show 8 * (12 * c + j) + i < 8 * (12 * c + j) + (hs (gmt (gc W c) j)).length; omega) (by show 8 * (12 * c + j) + (hs (gmt (gc W c) j)).length < _; omega)) ?_
      obtain ⟨t1, t2, t3, t4, t5⟩ := hH i hil
      have wfh : wfH (co (gmt (gc W c) j)).length (ghn (hs (gmt (gc W c) j)) i) := (hW.m hF1.1.1 hc hj).2.2.2.1.2 _ (getD_mem (d := (0, 0, 0, [])) hil)
      obtain ⟨f1, f2, f3, -⟩ := wfh
      have nx : catH W a (clN s r) (hs (gmt (gc W c) j)) = catH W a (clN s r) ((hs (gmt (gc W c) j)).drop (i + 1)) → w_Model_handlerOf_j145 0 Q (w_Model_handlerOf_L27 0 Q m) (tr true r) (Int32.ofNat (12 * c + j)) (Int32.ofNat a) (Int32.ofNat (8 * (12 * c + j) + i)) M := fun e1 => by
        unfold w_Model_handlerOf_j145
        rw [show Int32.ofNat (8 * (12 * c + j) + i) + (1 : Int32) = Int32.ofNat (8 * (12 * c + j) + (i + 1)) from oN_add (8 * (12 * c + j) + i) 1]
        exact ihm (i + 1) (by omega) (by omega) e1
      rw [catH_drop hil] at he'
      have vp : ∀ f, 152 ≤ f → f ≤ 155 → vp_in (Int32.ofNat (8 * (12 * c + j) + i)) (mL M f w) := fun f f1 f2 => by rw [l15 f f1 f2]; exact (vp_oN (by omega)).mpr (by omega)
      have t1 : mI M 152 w (8 * (12 * c + j) + i) = Int32.ofNat (ghn (hs (gmt (gc W c) j)) i).1 := t1
      have t2 : mI M 153 w (8 * (12 * c + j) + i) = Int32.ofNat (ghn (hs (gmt (gc W c) j)) i).2.1 := t2
      have t3 : mI M 154 w (8 * (12 * c + j) + i) = Int32.ofNat (ghn (hs (gmt (gc W c) j)) i).2.2.1 := t3
      have t4 : mI M 155 w (8 * (12 * c + j) + i) = anyC A (ghn (hs (gmt (gc W c) j)) i).2.2.2 := t4
      have t5 : (ghn (hs (gmt (gc W c) j)) i).2.2.2 ∈ A := t5
      generalize ghn (hs (gmt (gc W c) j)) i = hd at he' t1 t2 t3 t4 t5 f1 f2 f3
      refine ⟨w, R5, vp 152 (by omega) (by omega), ?_⟩
      rw [oN_tnc (k := 8 * (12 * c + j) + i) (by omega), t1]
      by_cases c1 : a < hd.1
      · exact itp ((oN_lt (by omega) (by omega)).mpr c1) (nx (he'.trans (if_pos (Or.inl c1))))
      refine itn (fun z => c1 ((oN_lt (by omega) (by omega)).mp z)) ⟨w, R5, vp 153 (by omega) (by omega), ?_⟩
      rw [t2]
      by_cases c2 : hd.2.1 ≤ a
      · exact itp ((oN_le (by omega) (by omega)).mpr c2) (nx (he'.trans (if_pos (Or.inr c2))))
      rw [if_neg (fun z => z.elim c1 c2)] at he'
      refine itn (fun z => c2 ((oN_le (by omega) (by omega)).mp z)) ⟨w, R5, vp 155 (by omega) (by omega), ?_⟩
      rw [t4]
      have found : catH W a (clN s r) (hs (gmt (gc W c) j)) = some hd.2.2.1 → Q (Int32.ofNat (8 * (12 * c + j) + i)) M := fun e1 => hQ1 _ _ e1 (by omega) t3
      by_cases cany : hd.2.2.2 = nAny
      · rw [if_pos cany] at he'
        have ea : anyC A hd.2.2.2 = -1 := by unfold anyC; rw [if_pos cany]
        rw [ea]
        refine itn (by decide) ?_
        unfold w_Model_handlerOf_j108
        refine ⟨w, R5, vp 155 (by omega) (by omega), ?_⟩
        rw [oN_tnc (k := 8 * (12 * c + j) + i) (by omega), t4, ea]
        refine itp (by decide) (found (he'.trans ?_))
        have : bel W (clN s r) 0 = true := bel_iff.mpr (by rw [hce]; exact (bel0 hI (W.length + 1) e hel hll (by have := mu_le (W := W) (c := e); omega)).be)
        exact if_pos this
      · rw [if_neg cany] at he'
        have ea : anyC A hd.2.2.2 = nc A hd.2.2.2 := by unfold anyC; rw [if_neg cany]
        have hLA := hb.2.2.1
        have hix := List.idxOf_lt_length_iff.mpr t5
        have hge : (0 : Int32) ≤ nc A hd.2.2.2 := oN_zero_le (show A.idxOf hd.2.2.2 < 2147483648 by omega)
        have hlt : ¬ nc A hd.2.2.2 < (0 : Int32) := oN_nonneg (show A.idxOf hd.2.2.2 < 2147483648 by omega)
        rw [ea]
        refine itp hge ⟨w, R5, vp 155 (by omega) (by omega), ?_⟩
        rw [t4, ea]
        refine ct_classOf R5 hb.cl.1 t5 ?_
        unfold w_Model_handlerOf_j108
        refine ⟨w, R5, vp 155 (by omega) (by omega), ?_⟩
        rw [oN_tnc (k := 8 * (12 * c + j) + i) (by omega), t4, ea]
        refine itn hlt ?_
        cases ef : fnd W hd.2.2.2 with
        | none =>
          rw [ef] at he'
          exact itp (show (-2 : Int32) < 0 by decide) (nx he')
        | some d =>
          rw [ef] at he'
          have hd' := fnd_lt ef
          refine itn (oN_nonneg (show d < 2147483648 by omega)) (ct_classOfRef hW.1 hM.1.1 h.1 hFb hr.1 h0 (ct_isBelow R5 hb.cl (by rw [hce]; exact hel) (by omega) (fun b hbb => ?_)))
          cases b with
          | false =>
            have : ¬ bel W (clN s r) d = true := fun z => by have := hbb.mpr (bel_iff.mp z); cases this
            exact itp rfl (nx (he'.trans (if_neg this)))
          | true => exact itn (by decide) (found (he'.trans (if_pos (bel_iff.mpr (hbb.mp rfl)))))
  exact loop _ 0 (by omega) (by omega) rfl
end
section
variable {G : List Sl} {US : UST} {A : List Nm} {S : List Sg} {W : List Cls} {w c j a k t L : Nat} {br x r : Int32} {bb : Bool} {nq nl nf nk B F : Nat} {M M' : Mem} {s : Ms} {U V : List Un} {lo st lo' st' : List Vl} {o : Option Kd}
theorem TXm.yn (h : TXm G US A S W w br nq nl nf nk B F x t s M) {l : Ln} : TXm G US A S W w br nq nl nf nk B F x t (yN s (up1 (zN s) t l)) M := by
  obtain ⟨a, b, c, d, e, m, g⟩ := h
  refine ⟨a, b, c, d, e, m, fun t' ht hne => ?_⟩
  have : zN (yN s (up1 (zN s) t l)) t' = zN s t' := up1_o hne
  rw [this]; exact g t' ht hne
/-- a note, and the thread as it was -/
theorem k_note {what k : Nat} {m : Option Nat} {Q : Mem → Prop} (h : TM G US A S W w br nq nl nf nk B F x bb t s U M) (hE : (zE s).length ≤ 400) (hQ : ∀ M', TM G US A S W w br nq nl nf nk B F x bb t (evS s t what k m) U M' → Fr SNt M M' → Q M') : w_Model_note 0 (Int32.ofNat what) (oJt k m) Q M := by
  refine ct_note h.1 hE h.2.1.2.1.2 (fun M' h' hf => hQ M' ⟨h', ?_, h.2.2.1.eq (fun g k hl h23 => nt_I hf hl h23 _), ?_⟩ hf)
  · rw [ev_N]; exact h.2.1.eq (fun g k hl h23 => nt_I hf hl h23 _) (fun g hl => nt_L hf hl _)
  · rw [ev_N, nt_I hf rfl (by omega)]; exact h.2.2.2
/-- a class's state changes -/
theorem TM.cl {v : Int32} (h : TM G US A S W w br nq nl nf nk B F x bb t s U M) (hk : k < W.length) (hv : v ≠ 1) : TM G US A S W w br nq nl nf nk B F x bb t (yC s (up1 (zC s) k v)) U (sI M 137 w k v) := by
  have hf : Fr (174224571863520493293247799005065324265472) M (sI M 137 w k v) := Fr.wIa rfl rfl (Fr.rf _ _)
  have hg := h.1.ga
  obtain ⟨⟨a1, ⟨⟨b0, b1, b2', b3⟩, b4⟩, ⟨c1, c2⟩, ⟨d1, d2, d3⟩, ⟨e1, e2, e3, e4⟩, ⟨m1, m2, m3⟩, g⟩, hl, hu, h4⟩ := h
  have tI : ∀ i g k', tnF g = true → (g = 13 → k' < 23) → mI (sI M 137 w k v) g i k' = mI M g i k' := fun i g k' hg h23 => unO_I (R := (174224571863520493293247799005065324265472)) rfl hf hg h23 i
  have tL : ∀ i g, tnF g = true → mL (sI M 137 w k v) g i = mL M g i := fun i g _ => rfl
  have hr := hf.rsl hg
  refine ⟨⟨a1.mfr hf, ⟨⟨b0, fun k' hk' => ?_, b2', b3⟩, b4.fr hf⟩, ⟨c1.fr hf, c2.fr hg hf⟩, ⟨d1.fr hf, d2.fr hf, d3.fr hf⟩, ⟨e1, e2, e3, e4⟩, ⟨by rw [hr.1, hr.2]; exact m1, m2, m3⟩, fun t' ht hne => (g t' ht hne).eq (tI _) (tL _)⟩, hl.eq (tI _) (tL _), hu.eq (tI _), fun z => by rw [tI _ 13 4 rfl (by omega)]; exact h4 z⟩
  show mI (sI M 137 w k v) 137 w k' = up1 (zC s) k v k' ∧ (up1 (zC s) k v k' = 1 → mI (sI M 137 w k v) 164 w k' = zO s k')
  rw [mI_sI]
  by_cases e : k' = k
  · rw [if_pos ⟨rfl, rfl, e⟩, e, up1_s]; exact ⟨rfl, fun z => absurd z hv⟩
  · rw [if_neg (fun z => e z.2.2), up1_o e]
    refine ⟨(b1 k' hk').1, fun z => ?_⟩
    rw [mI_sI, if_neg (fun z => absurd z.1 (by decide))]; exact (b1 k' hk').2 z
/-- a unit goes -/
theorem TM.pop1 {ko : Nat × Bool} (h : TM G US A S W w br nq nl nf nk B F x bb t s (.inr ko :: U) M) : TM G US A S W w br nq nl nf nk B F x bb t s U (sI M 13 (3 * w + t) 16 (Int32.ofNat U.length)) := by
  have ag : AgU w t M (sI M 13 (3 * w + t) 16 (Int32.ofNat U.length)) := AgU.rf.w13
  have rd : ∀ i, i ≠ 16 → mI (sI M 13 (3 * w + t) 16 (Int32.ofNat U.length)) 13 (3 * w + t) i = mI M 13 (3 * w + t) i := fun i hi => by rw [mI_sI, if_neg (fun z => hi z.2.2)]
  have ra : ∀ g i, g ≠ 13 → mI (sI M 13 (3 * w + t) 16 (Int32.ofNat U.length)) g (3 * w + t) i = mI M g (3 * w + t) i := fun g i hg => by rw [mI_sI, if_neg (fun z => hg z.1)]
  refine ⟨h.1.ag ag, h.2.1.g (fun k hk => rd k (by omega)) (fun k => ra 170 k (by omega)) (fun _ => rfl), ⟨by rw [mI_sI, if_pos ⟨rfl, rfl, rfl⟩], (rd 22 (by omega)).trans h.2.2.1.2.1, ?_⟩, fun z => ?_⟩
  · exact unT.eq' (fun g i hg => ra g i (by omega)) h.2.2.1.2.2.2
  · rw [rd 4 (by omega)]; exact h.2.2.2 z
end
