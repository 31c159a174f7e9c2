/-! collect in the works: threads, and what things refer to -/
section
variable {A : List Nm} {W : List Cls} {w k C B F K c t r d : Nat} {br x v2 v3 : Int32} {nq nk np nh nr : Nat} {s : Ms} {M M' : Mem} {p p0 : MP} {Q : Int32 → Mem → Prop}
theorem c_cl121 (hW : WO W) (hA : MA W s) (hE : ∀ M', RC A W (k + 1) br nq nk np nh nr C B F s M' → cMk (k + 1) (mkL mp0 (rtA W s)) M' → ∃ n, w_Machine_collect_L230 (k + 1) Q n M') : ∀ n t M, t ≤ 3 → 3 - t < n → RC A W (k + 1) br nq nk np nh nr C B F s M → cMk (k + 1) (mkL mp0 (rtN W s t)) M → w_Machine_collect_L121 (k + 1) Q n (Int32.ofNat 3) (Int32.ofNat t) M
  | 0, t, M, h1, hn, h, hm => absurd hn (by omega)
  | n + 1, t, M, h1, hn, h, hm => by
    unfold w_Machine_collect_L121
    by_cases et : t = 3
    · subst et
      exact itp (le_oN (Nat.le_refl _) (by omega)) (hE M h hm)
    have ht : t < 3 := by omega
    refine itn (nle_oN (by omega) (by omega)) ?_
    rw [oN_tnc (k := t) (by omega), h.1.2.2.2.2.1.1]
    refine ⟨(vp_oN (by omega)).mpr ht, 3 * (k + 1) + t, h.1.2.2.2.2.1.2 t ht, (gU s t).length + 1, ?_⟩
    refine c_cl134 ht ((hA.2.2.1 t ht).1.len hW) (UO.stk hW hA.1.1 (hA.2.2.1 t ht).1.1) (hA.sts51 hW ht) (p0 := mkL mp0 (rtN W s t)) okP.z.mkl (fun M' h' hm' => ?_) _ (gU s t) [] M (by rw [List.append_nil]) (by omega) h hm
    rw [lit32 1, oN_add]
    refine c_cl121 hW hA hE n (t + 1) M' (by omega) (by omega) h' ?_
    unfold rtN
    rw [mkL_app]; exact hm'
theorem c_cl271 {k230 : Mem → Prop} (hW : WO W) (hG : GL W s) (hnA : nA A) (hr8 : r < 801) (hth : thr s r = true) (hd : (gOb s r).1 = some d) (hp : okP p0) (hk : ∀ M', RC A W (k + 1) br nq nk np nh nr C B F s M' → cMk (k + 1) (mkL p0 (edA s r)) M' → k230 M') : ∀ n i M, i ≤ (gOb s r).2.2.1 → (gOb s r).2.2.1 - i < n → RC A W (k + 1) br nq nk np nh nr C B F s M → cMk (k + 1) (mkL p0 (edV s r i)) M → w_Machine_collect_L271 (k + 1) Q k230 n (Int32.ofNat r) (Int32.ofNat i) M
  | 0, i, M, hi, hn, h, hm => absurd hn (by omega)
  | n + 1, i, M, hi, hn, h, hm => by
    have h51 := hW.2.2.2
    obtain ⟨⟨⟨l79, l80, l81, -, l84⟩, -⟩, -, -, hO, hC, -⟩ := id h.1.2.2.1.1
    obtain ⟨o1, o2, o3, -⟩ := hO r hth
    obtain ⟨⟨b1, b2⟩, hcs⟩ := ob_in hG hth
    obtain ⟨hd1, hd2, hd3, hd4⟩ : d < W.length ∧ (zL s).1 d = 1 ∧ (gOb s r).2.2.1 = osz W d ∧ ∀ k, k < osz W d → gKd s ((gOb s r).2.1 + k) = gk (ofk W d) k := by
      rcases hcs with ⟨z, -⟩ | ⟨d', z, q⟩
      · rw [hd] at z; cases z
      · rw [hd] at z; cases z; exact q
    unfold w_Machine_collect_L271
    rw [oN_tnc (k := r) (by omega), o3, l81]
    refine ⟨(vp_oN (by omega)).mpr hr8, ?_⟩
    by_cases ei : i = (gOb s r).2.2.1
    · refine itp (le_oN (by omega) (by omega)) ?_
      rw [ei] at hm
      exact hk M h hm
    refine itn (nle_oN (by omega) (by omega)) ⟨by rw [l79]; exact (vp_oN (by omega)).mpr hr8, ?_⟩
    rw [o1, hd]
    have go : ∀ M', RC A W (k + 1) br nq nk np nh nr C B F s M' → cMk (k + 1) (mkL p0 (edV s r (i + 1))) M' → w_Machine_collect_j315 (k + 1) Q k230 (w_Machine_collect_L271 (k + 1) Q k230 n) (Int32.ofNat r) (Int32.ofNat i) M' := fun M' h' hm' => by
      unfold w_Machine_collect_j315
      rw [lit32 1, oN_add]
      exact c_cl271 hW hG hnA hr8 hth hd hp hk n (i + 1) M' (by omega) (by omega) h' hm'
    have es := mkL_sel (p := p0) (P := fun k => decide ((gKd s ((gOb s r).2.1 + k)).1 ≠ 0)) (g := fun k => gCell s ((gOb s r).2.1 + k)) (n := i)
    refine c_fieldKind hW.1 h.1.1.1 h51 hG.1.1 hd1 hd2 (by omega) (fun ko => ?_)
    have hty : tyOk (gk (ofk W d) i) := ofkN_ty hW.2.2.1 52 d hd1 _ (getD_mem (by show i < (ofk W d).length; rw [ofk_len]; omega))
    have hkc := kC_z hty ko hnA
    by_cases k0 : (gk (ofk W d) i).1 = 0
    · refine itp (hkc.mpr k0) (go M h ?_)
      rw [if_neg (fun z => (of_decide_eq_true z) (by rw [hd4 i (by omega)]; exact k0))] at es
      unfold edV at hm ⊢
      rw [es]; exact hm
    · refine itn (fun z => k0 (hkc.mp z)) ⟨by rw [l80]; exact (vp_oN (by omega)).mpr hr8, ?_⟩
      rw [o2, oN_add, oN_tnc (k := (gOb s r).2.1 + i) (by omega), l84, hC _ (by omega)]
      refine ⟨(vp_oN (by omega)).mpr (by omega), c_reaches hm hp.mkl (fun M' hm' hf' => go M' (RC.mk h hf') ?_)⟩
      rw [if_pos (decide_eq_true (by rw [hd4 i (by omega)]; exact k0))] at es
      unfold edV at hm' ⊢
      rw [es]; exact hm'
theorem c_cl230 (hW : WO W) (hA : MA W s) (hnA : nA A) (hE : ∀ p M', RC A W (k + 1) br nq nk np nh nr C B F s M' → cMk (k + 1) p M' → (∀ n, p.1 n = mrk W s n) → w_Machine_sweep (k + 1) Q M') : ∀ n p M, p.2.length + unm p.1 800 < n → okP p → DM (rtA W s) (edA s) p.1 p.2 → RC A W (k + 1) br nq nk np nh nr C B F s M → cMk (k + 1) p M → w_Machine_collect_L230 (k + 1) Q n M
  | 0, p, M, hn, hp, hD, h, hm => absurd hn (by omega)
  | n + 1, p, M, hn, hp, hD, h, hm => by
    obtain ⟨P, L⟩ := p
    have hlen := hp.len
    unfold w_Machine_collect_L230
    have e18 : mI M 6 (k + 1) 18 = Int32.ofNat L.length := hm.2.2.1
    rw [e18]
    rcases List.eq_nil_or_concat L with eL | ⟨L', r, eL⟩
    · subst eL
      refine itp (by decide) (hE _ M h hm (fun n => ?_))
      show P n = mrk W s n
      have this : P n = true ↔ Rg (rtA W s) (edA s) n := hD.fin n
      cases e1 : P n with
      | true => exact (mrk_iff.2 (this.1 e1)).symm
      | false =>
        cases e2 : mrk W s n with
        | true => have := this.2 (mrk_iff.1 e2); rw [e1] at this; cases this
        | false => rfl
    · rw [List.concat_eq_append] at eL
      subst eL
      have hlen : (L' ++ [r]).length ≤ 800 := hlen
      have hn : (L' ++ [r]).length + unm P 800 < n + 1 := hn
      rw [List.length_append, List.length_singleton] at hlen hn
      have es : Int32.ofNat (L' ++ [r]).length - (1 : Int32) = Int32.ofNat L'.length := by rw [List.length_append, List.length_singleton, lit32 1, sub_n (by omega), Nat.add_sub_cancel]
      have e0 : ¬ Int32.ofNat (L' ++ [r]).length ≤ 0 := by rw [List.length_append, List.length_singleton]; exact nle_oN (b := 0) (by omega) (by omega)
      refine itn e0 ?_
      rw [es]
      have hr := hp.2 r (List.mem_append.2 (Or.inr (List.mem_singleton.2 rfl)))
      have hth := rg_th hW.1 hA (hD.1 r hr.2)
      have hf : Fr SMk M (sI M 6 (k + 1) 18 (Int32.ofNat L'.length)) := Fr.wI rfl (Fr.rf _ _)
      have h1 := RC.mk h hf
      have e18' : mI (sI M 6 (k + 1) 18 (Int32.ofNat L'.length)) 6 (k + 1) 18 = Int32.ofNat L'.length := by rw [mI_sI, if_pos ⟨rfl, rfl, rfl⟩]
      have hm1 : cMk (k + 1) (P, L') (sI M 6 (k + 1) 18 (Int32.ofNat L'.length)) := by
        refine ⟨hm.1, fun j hj => ?_, e18', fun i hi => ?_⟩
        · rw [mI_sI, if_neg (fun z => absurd z.1 (by decide))]; exact hm.2.1 j hj
        · have hi : i < L'.length := hi
          rw [mI_sI, if_neg (fun z => absurd z.1 (by decide))]
          have := hm.2.2.2 i (by show i < (L' ++ [r]).length; rw [List.length_append]; omega)
          rw [this]
          show Int32.ofNat ((L' ++ [r]).getD i 0) = Int32.ofNat (L'.getD i 0)
          rw [List.getD_eq_getElem?_getD, List.getElem?_append_left hi, ← List.getD_eq_getElem?_getD]
      have ex : mI (sI M 6 (k + 1) 18 (Int32.ofNat L'.length)) 82 (k + 1) L'.length = Int32.ofNat r := by
        rw [mI_sI, if_neg (fun z => absurd z.1 (by decide))]
        have := hm.2.2.2 L'.length (by show L'.length < (L' ++ [r]).length; rw [List.length_append, List.length_singleton]; omega)
        rw [this]
        show Int32.ofNat ((L' ++ [r]).getD L'.length 0) = _
        rw [List.getD_eq_getElem?_getD, List.getElem?_append_right (Nat.le_refl _), Nat.sub_self]; rfl
      have hp1 : okP (P, L') := ⟨(List.nodup_append.1 hp.1).1, fun n hn => hp.2 n (List.mem_append.2 (Or.inl hn))⟩
      generalize sI M 6 (k + 1) 18 (Int32.ofNat L'.length) = M1 at h1 e18' hm1 ex ⊢
      obtain ⟨⟨⟨l79, -⟩, -⟩, -, -, hO, -⟩ := id h1.1.2.2.1.1
      obtain ⟨o1, -⟩ := hO r hth
      rw [e18', oN_tnc (k := L'.length) (by omega), hm1.1.2]
      refine ⟨(vp_oN (by omega)).mpr (by omega), _, rfl, ?_⟩
      rw [ex, oN_tnc (k := r) (by omega), l79, o1]
      refine ⟨(vp_oN (by omega)).mpr (by omega), ?_⟩
      have hst : ∀ q, q = mkL (P, L') (edA s r) → DM (rtA W s) (edA s) q.1 q.2 := fun q hq => by
        refine hD.step (p := (P, L')) (r := r) hr.2 hq (fun n hn => ?_) (fun n hn _ => hn)
        rcases List.mem_append.1 hn with z | z
        · right
          obtain ⟨-, -, ⟨l, el⟩, -⟩ := mkL_in (xs := edA s r) (p := (P, L'))
          rw [hq, el]
          exact List.mem_append.2 (Or.inl z)
        · exact Or.inl (List.mem_singleton.1 z)
      have hmu : (mkL (P, L') (edA s r)).2.length + unm (mkL (P, L') (edA s r)).1 800 = L'.length + unm P 800 := mkL_mu
      cases ec : (gOb s r).1 with
      | none =>
        refine itn (show ¬ (0 : Int32) ≤ -1 by decide) ?_
        have ee : edA s r = [] := by
          refine selL_no (fun k hk => ?_)
          rcases (ob_in hA.1.1 hth).2 with ⟨-, z⟩ | ⟨d', z, -⟩
          · rw [z k hk]; rfl
          · rw [ec] at z; cases z
        refine c_cl230 hW hA hnA hE n (P, L') M1 (by show L'.length + unm P 800 < n; omega) hp1 (hst _ (by rw [ee]; rfl)) h1 hm1
      | some d =>
        have hd51 : d < 51 := by
          have h51 := hW.2.2.2
          rcases (ob_in hA.1.1 hth).2 with ⟨z, -⟩ | ⟨d', z, q⟩
          · rw [ec] at z; cases z
          · rw [ec] at z; cases z; omega
        refine itp (show (0 : Int32) ≤ Int32.ofNat d from oN_zero_le (by omega)) ⟨(gOb s r).2.2.1 + 1, ?_⟩
        refine c_cl271 hW hA.1.1 hnA (by omega) hth ec hp1 (fun M' h' hm' => ?_) _ 0 M1 (Nat.zero_le _) (by omega) h1 hm1
        exact c_cl230 hW hA hnA hE n _ M' (by omega) hp1.mkl (hst _ rfl) h' hm'
end
