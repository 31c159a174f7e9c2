/-! THE MACHINE IN THE TWIN: a call's step (printed by gen/td.py) -/
section
variable {G : List Sl} {US : UST} {A : List Nm} {S : List Sg} {W : List Cls} {w c j a k t L q n d : Nat} {br x r v e : Int32} {bb : Bool} {nq nl nf nk B F op : Nat} {M M' : Mem} {s s' : Ms} {U V : List Un} {lo st lo' st' : List Vl} {o : Option Kd} {Q : Int32 → Mem → Prop} {i : Ins} {p : Nat × Nat}
theorem TB.sgT {ks : List Kd} {κ : Kd} (h : TB G US A S W w br nq nl nf nk M) (hm : sg A ks κ ∈ S) : mR M 11 0 31 = some (300, rdI M sC) ∧ S.idxOf (sg A ks κ) < mL M 300 (rdI M sC) ∧ S.idxOf (sg A ks κ) < 100000 ∧ mI M 300 (rdI M sC) (S.idxOf (sg A ks κ)) = Int32.ofNat ks.length := by
  obtain ⟨-, ⟨-, -, s3, s4, -⟩, ⟨l1, l2, l3, -, l5, -⟩, hn, hg, -⟩ := h.1.2.1.1
  have hlt : S.idxOf (sg A ks κ) < S.length := List.idxOf_lt_length_of_mem hm
  have eg : gs1 S (S.idxOf (sg A ks κ)) = sg A ks κ := by
    show S.getD _ _ = _
    rw [List.getD_eq_getElem?_getD, List.getElem?_eq_getElem hlt]
    exact List.getElem_idxOf hlt
  obtain ⟨⟨g1, g2, g3, -⟩, g5⟩ := hg _ hlt
  rw [eg] at g2
  have el : (sg A ks κ).1.length = ks.length := by show (ks.map _).length = _; rw [List.length_map]
  rw [el] at g2
  have l2 : S.length ≤ mL M 300 (rdI M sC) := l2
  exact ⟨(h.1.2.2.2 sC (X5_in h.2.1.2.1 (by simp))).1.1, by omega, by omega, g2⟩
theorem ct_j134 (hq : TQc W F s) (h : TM G US A S W w br nq nl nf nk B F x bb t s (.inl (c, j, a, lo, st) :: U) M) (hA : At W s t c j a lo st U i) (hI : TI1 A S w nl nf nk nq q n i M) (ho : isMo op) (hi : i.1 = op) (hFq : Fq W (tickS s t op) i p) (hQ : ∀ M', TM G US A S W w br nq nl nf nk B F x bb t (doS W t (tickS s t op) c j a lo st U i p) (gU (doS W t (tickS s t op) c j a lo st U i p) t) M' → Q 1 M') : w_Model_callStep_j134 0 Q (Int32.ofNat (frs U)) (Int32.ofNat q) (Int32.ofNat op) (nc A (iM i)) (Int32.ofNat (S.idxOf (sg A (iA i) (iR i)))) (Int32.ofNat (12 * p.1 + p.2)) (Int32.ofNat (iA i).length) M := by
  have o4 : op = 50 ∨ op = 51 ∨ op = 52 ∨ op = 53 := by obtain ⟨_, _⟩ := ho; omega
  unfold w_Model_callStep_j134
  refine ct_tally (op := op) h (by omega) (fun M1 h1 _ fr => ?_)
  have hI := hI.tk h fr
  have hA := hA.tick (op := op)
  have hq : TQc W F (tickS s t op) := hq
  generalize tickS s t op = s' at *
  rcases o4 with z | z | z | z <;> subst z
  · exact itn (by decide) (ct_c50a hq h1 hA hFq hI hi hQ)
  · exact itn (by decide) (ct_c51 hq h1 hA hFq hi hQ)
  · exact itp rfl (ct_c52 hq h1 hA hFq hi hQ)
  · exact itn (by decide) (ct_c53a hq h1 hA hFq hI hi hQ)
theorem ct_callStep (hq : TQc W F s) (h : TM G US A S W w br nq nl nf nk B F x bb t s (.inl (c, j, a, lo, st) :: U) M) (hA : At W s t c j a lo st U i) (hI : TI1 A S w nl nf nk nq q n i M) (hns : iM i ≠ nStart) (hw0 : lWt (zN s t) = none) (ho : isMo op) (hi : i.1 = op) (hQ : ∀ y L, ins1 br W s c j i = (y, L) → HQa G US A S W w br nq nl nf nk B F x bb t (zK s) (ins2 br W t (yL s L) c j a lo st U i (y)) Q) (hQ2 : ∀ y L, ins1 br W s c j i = (y, L) → HQw G US A S W w br nq nl nf nk B F x bb t (ins2 br W t (yL s L) c j a lo st U i (y)) (yL s L) Q) : w_Model_callStep 0 (Int32.ofNat (frs U)) (Int32.ofNat (12 * c + j)) (Int32.ofNat q) (Int32.ofNat op) Q M := by
  obtain ⟨hB, hWF, hWC, h51⟩ := hA.1.1
  have hG := hA.1.2.1.1.1
  have o4 : 50 ≤ op ∧ op ≤ 53 := ho
  have hmo : isMo i.1 := by rw [hi]; exact ho
  obtain ⟨hcl, hjl⟩ : c < W.length ∧ j < (gc W c).2.2.2.2.2.length := hA.cj
  have h12 := (h.1.1.1.mcn hcl).2
  have e12 : Int32.ofNat (12 * c + j) / (12 : Int32) = Int32.ofNat c := by rw [show (12 : Int32) = Int32.ofNat 12 from rfl, oN_div (by omega) (by omega)]; congr 1; omega
  have ef : fIns br W (zL s) c (gmt (gc W c) j) i = ins1 br W s c j i := by unfold ins1; rw [if_neg (by omega)]
  have hok := fIns_ok (br := br) (c := c) (x := gmt (gc W c) j) (i := i) h51 hG.1
  have eF : fIns br W (zL s) c (gmt (gc W c) j) i = fMth br W (zL s) (iK i) (xi i) i.1 (fun d => decide (d = c)) := by
    unfold fIns
    rw [if_neg (by omega), if_neg (by omega), if_neg (by unfold isFo; omega), if_pos hmo]
  have hx : xOk A S (xi i) := by
    obtain ⟨⟨-, ⟨-, -, -, -, t5, -, t7⟩, -⟩, -, -⟩ := hI
    have t7 := t7 hmo
    exact ⟨t5 (Or.inr hmo), t7.1, t7.2.1, t7.2.2.1, t7.2.2.2.1⟩
  obtain ⟨⟨ra, rb, rc, rd⟩, ⟨ra2, rb2, rc2, rd2⟩, ra3, rb3, rc3⟩ := h.1.1.1.rdA hI (Or.inr hmo)
  rw [if_neg (by unfold isFo; omega)] at rc3
  have hq39 := hI.2.1
  unfold w_Model_callStep
  refine ⟨w, h.r45, _, ra2, (vp_oN (by omega)).mpr rb2, w, h.r45, _, ra3, (vp_oN (by omega)).mpr rb3, w, h.r45, _, ra, (vp_oN (by omega)).mpr rb, by decide, ?_⟩
  rw [oN_tnc (k := q) (by omega), rc, rc2, rc3, e12]
  have g := ct_findMethod (br := br) (o := i.1) (x := xi i) (kn := iK i) (acc := fun d => decide (d = c)) (v5 := Int32.ofNat c) (Q := fun r M' => LKt G US A S W w br nq nl nf nk (fIns br W (zL s) c (gmt (gc W c) j) i).2 M' ∧ (∀ e, (fIns br W (zL s) c (gmt (gc W c) j) i).1 = .inl e → tThr e M') ∧ r = rcT mT (fIns br W (zL s) c (gmt (gc W c) j) i).1) hWF h.1.1 hG.1.1 hG.1.2.1 hx rd hns (by omega) (Or.inr (Or.inr ⟨c, hcl, rfl, fun d => rfl⟩)) h.1.2.2.2.2.2.1.2 (by rw [← eF]; exact fun M' a b => ⟨a, b, rfl⟩)
  rw [hi] at g
  refine mf_w_Model_findMethod (fun r M1 hf ⟨k1, k2, er⟩ => ?_) g
  cases eL : fIns br W (zL s) c (gmt (gc W c) j) i with
  | mk y L' =>
    rw [eL] at k1 k2 er hok
    have h1 : TM G US A S W w br nq nl nf nk B F x bb t (yL s L') (.inl (c, j, a, lo, st) :: U) M1 := h.lk hf k1
    have hI1 : TI1 A S w nl nf nk nq q n i M1 := hI.fr hf h.1.ga h.1.1.1.2.1.2.2.2.1
    have e1 : ins1 br W s c j i = (y, L') := ef.symm.trans eL
    have hA' := hA.yl hok.2
    cases y with
    | inl e =>
      have er : r = -1 := er
      subst er
      exact itn (by decide) (ct_failAt (s := yL s L') hq h1 hA' hok.1 (k2 e rfl) hi (by omega) (hQ _ _ e1))
    | inr p =>
      have er : r = Int32.ofNat (12 * p.1 + p.2) := er
      subst er
      obtain ⟨hp, hp2⟩ := (fIns_lt eL).2.2 hmo
      have h12p := (h.1.1.1.mcn hp).2
      have hFq : ∀ s', zL s' = L' → (strt i.1 → zC s' p.1 ≠ 0) → Fq W s' i p := fun s' hs hz => Fq_of (s := s) eL hs hz
      have hQ := hQ _ _ e1
      have hQ2 := hQ2 _ _ e1
      obtain ⟨z1, z2, z3, z4⟩ := h1.1.1.1.sgT (ks := iA i) (κ := iR i) hx.2.1
      refine itp (oN_zero_le (show 12 * p.1 + p.2 < 2147483648 by omega)) ⟨_, z1, (vp_oN (by omega)).mpr z2, _, rfl, ?_⟩
      rw [oN_tnc (k := S.idxOf (sg A (iA i) (iR i))) (by omega), z4]
      by_cases c52 : op = 52
      · subst c52
        rw [ins2_must hi (by decide)] at hQ hQ2
        have p12 : Int32.ofNat (12 * p.1 + p.2) / (12 : Int32) = Int32.ofNat p.1 := by rw [show (12 : Int32) = Int32.ofNat 12 from rfl, oN_div (by omega) (by omega)]; congr 1; omega
        rw [p12]
        refine itp rfl ⟨by decide, ct_mustT (op := 52) (s := yL s L') (d := fun s' => doS W t s' c j a lo st U i p) hq (by rw [hA'.2.1]; exact h1) (by rw [hA'.2.1]; exact hA'.1.2.1) hA'.1.2.2 hw0 hp (by omega) (fun es hz em => ?_) hQ (fun M' e1 h1 e2 => hQ2 (.inr p.1) M' e1 h1 e2)⟩
        rw [em] at hQ
        exact ct_j134 (s := yL s L') hq h1 hA' hI1 ho hi (hFq _ rfl (fun _ => hz)) (fun M' h' => hQ 1 M' (Or.inr ⟨rfl, do_K1⟩) h')
      · rw [ins2_do hi (by omega) (by unfold strt; omega)] at hQ
        exact itn (ne_oN (b := 52) c52 (by omega) (by omega)) (ct_j134 (s := yL s L') hq h1 hA' hI1 ho hi (hFq _ rfl (fun z => by rw [hi] at z; unfold strt at z; omega)) (fun M' h' => hQ 1 M' (Or.inr ⟨rfl, do_K1⟩) h'))
end
