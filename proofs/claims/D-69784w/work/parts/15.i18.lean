/-! collect in the twin: threads, and what things refer to -/
theorem frs_le {V : List Un} : ∀ {X : List Un}, frs V ≤ frs (X ++ V)
  | [] => Nat.le_refl _
  | .inl _ :: X => Nat.le_succ_of_le (frs_le (X := X))
  | .inr _ :: X => frs_le (X := X)
section
variable {G : List Sl} {US : UST} {A : List Nm} {S : List Sg} {W : List Cls} {k C B F K ud t c r d : Nat} {br a b x y v2 : Int32} {nq nl nf nk : Nat} {s : Ms} {M M' : Mem} {Q : Int32 → Mem → Prop} {on : Nat → Bool} {p p0 : MP}
theorem ct_cl199 {k138 : Int32 → Mem → Prop} {k156 : Int32 → Nat → Int32 → Mem → Prop} {X V : List Un} {fc fj fa : Nat} {lo st : List Vl} (ht : t < 3) (hon : (zN s t).1 = true) (hg : gU s t = X ++ .inl (fc, fj, fa, lo, st) :: V) (hv : frs V < 40) (hst : st.length ≤ 20) (hvr : ∀ v, v ∈ lo ∨ v ∈ st → v.2 = true → vRf s v.1) (hp : okP p0) (hk : ∀ M', TC G US A S W k br nq nl nf nk B F x s M' → tMk (mkL p0 (frV lo st (20 + st.length))) M' → k156 v2 (3 * k + t) (Int32.ofNat (frs V + 1)) M') : ∀ n i M, i ≤ 20 + st.length → 20 + st.length - i < n → TC G US A S W k br nq nl nf nk B F x s M → tMk (mkL p0 (frV lo st i)) M → w_Model_collect_L199 0 Q k138 k156 n v2 (3 * k + t) (Int32.ofNat (frs V)) (Int32.ofNat (44 * frs V + 20 + st.length)) (Int32.ofNat (44 * frs V + i)) M
  | 0, i, M, hi, hn, h, hm => absurd hn (by omega)
  | n + 1, i, M, hi, hn, h, hm => by
    obtain ⟨⟨-, -, -, -, -, -, l176, l525⟩, -⟩ := (h.1.2.2.2.2.2.2 t ht).1
    obtain ⟨-, -, hU⟩ := ((h.1.2.2.2.2.2.2 t ht).2 hon).2.1
    have hU : unT (3 * k + t) M (gU s t) := hU
    rw [hg] at hU
    obtain ⟨-, ⟨elo, est⟩, -⟩ := hU.at
    dsimp only at elo est
    unfold w_Model_collect_L199
    by_cases ei : i = 20 + st.length
    · refine itp (le_oN (by omega) (by omega)) ?_
      rw [lit32 1, oN_add]
      rw [ei] at hm
      exact hk M h hm
    refine itn (nle_oN (by omega) (by omega)) ?_
    rw [oN_tnc (k := 44 * frs V + i) (by omega), l176, l525]
    have er : mI M 176 (3 * k + t) (44 * frs V + i) = tr (frK lo st i).2 (frK lo st i).1 ∧ mI M 525 (3 * k + t) (44 * frs V + i) = b2 (frK lo st i).2 := by
      unfold frK
      by_cases c20 : i < 20
      · rw [if_pos c20]; exact elo i c20
      · rw [if_neg c20]
        have := est (i - 20) (by omega)
        rw [show 44 * frs V + 20 + (i - 20) = 44 * frs V + i by omega] at this
        exact this
    have go : ∀ M', TC G US A S W k br nq nl nf nk B F x s M' → tMk (mkL p0 (frV lo st (i + 1))) M' → w_Model_collect_j227 0 Q k138 k156 (w_Model_collect_L199 0 Q k138 k156 n) v2 (3 * k + t) (Int32.ofNat (frs V)) (Int32.ofNat (44 * frs V + 20 + st.length)) (Int32.ofNat (44 * frs V + i)) M' := fun M' h' hm' => by
      unfold w_Model_collect_j227
      rw [lit32 1, oN_add]
      exact ct_cl199 ht hon hg hv hst hvr hp hk n (i + 1) M' (by omega) (by omega) h' hm'
    have es := mkL_sel (p := p0) (P := fun k => (frK lo st k).2) (g := fun k => (frK lo st k).1) (n := i)
    rw [er.1, er.2]
    refine ⟨(vp_oN (by omega)).mpr (by omega), ?_⟩
    cases e2 : (frK lo st i).2 with
    | false =>
      refine itp rfl (go M h ?_)
      rw [if_neg (by rw [e2]; decide)] at es
      unfold frV at hm ⊢
      rw [es]; exact hm
    | true =>
      have hv1 : vRf s (frK lo st i).1 := by
        refine hvr _ ?_ e2
        unfold frK at e2 ⊢
        by_cases c20 : i < 20
        · rw [if_pos c20] at e2 ⊢; exact Or.inl (lv_mem e2).1
        · rw [if_neg c20] at e2 ⊢; exact Or.inr (lv_mem e2).1
      refine itn (by decide) ⟨(vp_oN (by omega)).mpr (by omega), ?_⟩
      refine ct_mark hm hp.mkl (fun M' hm' hf' => go M' (TC.mk h hf') ?_)
      rw [mkM_tr hv1] at hm'
      rw [if_pos e2] at es
      unfold frV at hm' ⊢
      rw [es]; exact hm'
theorem ct_cl156 {k138 : Int32 → Mem → Prop} (ht : t < 3) (hon : (zN s t).1 = true) (hl2 : lSt (zN s t) ≤ 2) (hl : frs (gU s t) ≤ 40) (hs : stk (gU s t)) (hvr : ∀ f, Sum.inl f ∈ gU s t → ∀ v, v ∈ f.2.2.2.1 ∨ v ∈ f.2.2.2.2 → v.2 = true → vRf s v.1) (hp : okP p0) (hk : ∀ M', TC G US A S W k br nq nl nf nk B F x s M' → tMk (mkL p0 (unV (gU s t))) M' → k138 (v2 + 1) M') : ∀ X n V M, gU s t = X ++ V → X.length < n → TC G US A S W k br nq nl nf nk B F x s M → tMk (mkL p0 (unV V)) M → w_Model_collect_L156 0 Q k138 n v2 (3 * k + t) (Int32.ofNat (frs V)) M := by
  intro X
  generalize hXn : X.length = m
  induction m generalizing X with
  | zero =>
    intro n V M hX hn h hm
    have eX : X = [] := List.eq_nil_of_length_eq_zero hXn
    subst eX
    obtain ⟨-, e0, -⟩ := (h.1.2.2.2.2.2.2 t ht).1
    obtain ⟨-, e22, -⟩ := ((h.1.2.2.2.2.2.2 t ht).2 hon).2.1
    have e22 : mI M 13 (3 * k + t) 22 = Int32.ofNat (frs (gU s t)) := e22
    rw [if_pos hon] at e0
    cases n with
    | zero => exact absurd hn (by omega)
    | succ n =>
      unfold w_Model_collect_L156
      rw [e0, e22]
      refine itn (fun z => ?_) (itp (le_oN (by rw [hX]; exact Nat.le_refl _) (by have e : gU s t = V := hX; rw [← e]; omega)) ?_)
      · have := oN_nonneg (show lSt (zN s t) < 2147483648 by omega)
        rw [z] at this
        exact this (by decide)
      · unfold w_Model_collect_j239
        rw [show gU s t = V from hX] at hk
        exact hk M h hm
  | succ m ih =>
    intro n V M hX hn h hm
    rcases List.eq_nil_or_concat X with eX | ⟨X', u, eX⟩
    · subst eX; cases hXn
    rw [List.concat_eq_append] at eX
    subst eX
    rw [List.length_append, List.length_singleton] at hXn
    have hX2 : gU s t = X' ++ u :: V := by rw [hX, List.append_assoc]; rfl
    cases u with
    | inr kk => exact ih X' (by omega) n (.inr kk :: V) M hX2 (by omega) h hm
    | inl f =>
      obtain ⟨fc, fj, fa, lo, st⟩ := f
      have hmem : Sum.inl (fc, fj, fa, lo, st) ∈ gU s t := by rw [hX2]; exact List.mem_append.2 (Or.inr List.mem_cons_self)
      have hst : st.length ≤ 20 := by rw [hX2] at hs; exact stk_app (f := (fc, fj, fa, lo, st)) hs
      have hfr : frs V + 1 ≤ frs (gU s t) := by rw [hX2]; exact frs_le (V := .inl (fc, fj, fa, lo, st) :: V)
      obtain ⟨⟨-, -, -, -, -, l175, -⟩, e0, -⟩ := (h.1.2.2.2.2.2.2 t ht).1
      obtain ⟨-, e22, hU⟩ := ((h.1.2.2.2.2.2.2 t ht).2 hon).2.1
      have e22 : mI M 13 (3 * k + t) 22 = Int32.ofNat (frs (gU s t)) := e22
      have hU : unT (3 * k + t) M (gU s t) := hU
      rw [hX2] at hU
      obtain ⟨⟨-, -, -, e175⟩, -⟩ := hU.at
      have e175 : mI M 175 (3 * k + t) (frs V) = Int32.ofNat st.length := e175
      rw [if_pos hon] at e0
      cases n with
      | zero => exact absurd hn (by omega)
      | succ n =>
        unfold w_Model_collect_L156
        rw [e0, e22]
        refine itn (fun z => ?_) (itn (nle_oN (by omega) (by omega)) ?_)
        · have := oN_nonneg (show lSt (zN s t) < 2147483648 by omega)
          rw [z] at this
          exact this (by decide)
        rw [oN_tnc (k := frs V) (by omega), e175, l175, show (44 : Int32) * Int32.ofNat (frs V) = Int32.ofNat (44 * frs V) from oN_mul 44 _, lit32 20, oN_add, oN_add]
        refine ⟨(vp_oN (by omega)).mpr (by omega), _, rfl, 20 + st.length + 1, ?_⟩
        refine ct_cl199 ht hon hX2 (by omega) hst (hvr _ hmem) (p0 := mkL p0 (unV V)) hp.mkl (fun M' h' hm' => ?_) _ 0 M (Nat.zero_le _) (by omega) h hm
        refine ih X' (by omega) n (.inl (fc, fj, fa, lo, st) :: V) M' hX2 (by omega) h' ?_
        unfold unV
        rw [mkL_app]; exact hm'
theorem ct_cl138 (hW : WO W) (hA : MA W s) (hN : NTs s) (hE : ∀ M', TC G US A S W k br nq nl nf nk B F x s M' → tMk (mkL mp0 (rtA W s)) M' → ∃ n, w_Model_collect_L247 0 Q n 0 M') : ∀ n t M, t ≤ 3 → 3 - t < n → TC G US A S W k br nq nl nf nk B F x s M → tMk (mkL mp0 (rtN W s t)) M → w_Model_collect_L138 0 Q n (Int32.ofNat t) M
  | 0, t, M, h1, hn, h, hm => absurd hn (by omega)
  | n + 1, t, M, h1, hn, h, hm => by
    unfold w_Model_collect_L138
    by_cases et : t = 3
    · subst et
      exact itp (le_oN (a := 3) (Nat.le_refl _) (by omega)) (hE M h hm)
    have ht : t < 3 := by omega
    refine itn (nle_oN (a := 3) (by omega) (by omega)) ?_
    rw [oN_tnc (k := t) (by omega)]
    refine ⟨k, h.1.r45, by rw [h.1.2.2.2.2.1.1]; exact (vp_oN (by omega)).mpr ht, 3 * k + t, h.1.2.2.2.2.1.2 t ht, (gU s t).length + 1, ?_⟩
    have go : ∀ M', TC G US A S W k br nq nl nf nk B F x s M' → tMk (mkL mp0 (rtN W s (t + 1))) M' → w_Model_collect_L138 0 Q n (Int32.ofNat t + 1) M' := fun M' h' hm' => by
      rw [lit32 1, oN_add]
      exact ct_cl138 hW hA hN hE n (t + 1) M' (by omega) (by omega) h' hm'
    unfold rtN at go
    rw [mkL_app] at go
    cases eo : (zN s t).1 with
    | false =>
      obtain ⟨-, e0, -⟩ := (h.1.2.2.2.2.2.2 t ht).1
      rw [eo, if_neg (by decide)] at e0
      unfold w_Model_collect_L156
      refine itp e0 ?_
      unfold w_Model_collect_j239
      refine go M h ?_
      rw [(hN t ht eo).2.2]; exact hm
    | true =>
      refine ct_cl156 ht eo (hA.2.1 t ht).2.1.1 (hA.2.2.1 t ht).1.2.2 (UO.stk hW hA.1.1 (hA.2.2.1 t ht).1.1) (fun f hf => ?_) (p0 := mkL mp0 (rtN W s t)) okP.z.mkl go (gU s t) _ [] M (by rw [List.append_nil]) (by omega) h hm
      obtain ⟨g1, o', g2⟩ := (hA.2.2.1 t ht).1.1.fm f hf
      exact (fm_vRf g1 g2).2
theorem ct_cl276 {k247 : Int32 → Mem → Prop} (hW : WO W) (hG : GL W s) (hr8 : r < 801) (hth : thr s r = true) (hd : (gOb s r).1 = some d) (hp : okP p0) (hk : ∀ M', TC G US A S W k br nq nl nf nk B F x s M' → tMk (mkL p0 (edA s r)) M' → k247 (v2 + 1) M') : ∀ n i M, i ≤ (gOb s r).2.2.1 → (gOb s r).2.2.1 - i < n → TC G US A S W k br nq nl nf nk B F x s M → tMk (mkL p0 (edV s r i)) M → w_Model_collect_L276 0 Q k247 n v2 (Int32.ofNat r) (Int32.ofNat d) (Int32.ofNat i) M
  | 0, i, M, hi, hn, h, hm => absurd hn (by omega)
  | n + 1, i, M, hi, hn, h, hm => by
    have h51 := hW.2.2.2
    have hT := h.1
    obtain ⟨⟨l7, l8, l9, l0, l2, l4, l1⟩, -, -, eO, e161⟩ := hT.2.2.1.1
    obtain ⟨o7, o8, o9, -⟩ := eO r hth
    obtain ⟨⟨b1, b2'⟩, hcs⟩ := ob_in hG hth
    obtain ⟨hd1, hd2, hd3, hd4⟩ : d < W.length ∧ (zL s).1 d = 1 ∧ (gOb s r).2.2.1 = osz W d ∧ ∀ k, k < osz W d → gKd s ((gOb s r).2.1 + k) = gk (ofk W d) k := by
      rcases hcs with ⟨z, -⟩ | ⟨d', z, q⟩
      · rw [hd] at z; cases z
      · rw [hd] at z; cases z; exact q
    have hnd : ¬ Int32.ofNat d = (-1 : Int32) := fun z => by
      have := oN_nonneg (show d < 2147483648 by omega)
      rw [z] at this
      exact this (by decide)
    unfold w_Model_collect_L276
    refine itn hnd ⟨k, hT.r45, ?_⟩
    rw [oN_tnc (k := r) (by omega), o9, l9]
    refine ⟨(vp_oN (by omega)).mpr hr8, ?_⟩
    by_cases ei : i = (gOb s r).2.2.1
    · refine itp (le_oN (by omega) (by omega)) ?_
      unfold w_Model_collect_j337
      rw [ei] at hm
      exact hk M h hm
    refine itn (nle_oN (by omega) (by omega)) ?_
    have go : ∀ M', TC G US A S W k br nq nl nf nk B F x s M' → tMk (mkL p0 (edV s r (i + 1))) M' → w_Model_collect_j331 0 Q k247 (w_Model_collect_L276 0 Q k247 n) v2 (Int32.ofNat r) (Int32.ofNat d) (Int32.ofNat i) M' := fun M' h' hm' => by
      unfold w_Model_collect_j331
      rw [lit32 1, oN_add]
      exact ct_cl276 hW hG hr8 hth hd hp hk n (i + 1) M' (by omega) (by omega) h' hm'
    have es := mkL_sel (p := p0) (P := fun k => decide ((gKd s ((gOb s r).2.1 + k)).1 ≠ 0)) (g := fun k => gCell s ((gOb s r).2.1 + k)) (n := i)
    unfold w_Model_isRefField
    refine ct_parentOf hT.r45 hT.1.1.cl hd1 ⟨53, ct_refField hW.1 hW.2.2.1 hT.1.1 hG.1.1 53 d (by have := mu_lt (c := d) h51; omega) hd1 hd2 (by omega) ?_⟩
    by_cases k0 : (gk (ofk W d) i).1 = 0
    · rw [decide_eq_false (fun z => z k0)]
      refine itp rfl (go M h ?_)
      rw [if_neg (fun z => (of_decide_eq_true z) (by rw [hd4 i (by omega)]; exact k0))] at es
      unfold edV at hm ⊢
      rw [es]; exact hm
    · rw [decide_eq_true k0]
      have hkd : (gKd s ((gOb s r).2.1 + i)).1 ≠ 0 := by rw [hd4 i (by omega)]; exact k0
      have hv : vRf s (gCell s ((gOb s r).2.1 + i)) := (hG.2.1.2.2 ((gOb s r).2.1 + i) (by omega)).2.2 (decide_eq_true hkd)
      refine itn (by decide) ⟨k, hT.r45, k, hT.r45, by rw [l8]; exact (vp_oN (by omega)).mpr hr8, ?_⟩
      rw [o8, oN_add, oN_tnc (k := (gOb s r).2.1 + i) (by omega), l1, e161 _ (by omega), decide_eq_true hkd]
      refine ⟨(vp_oN (by omega)).mpr (by omega), ct_mark hm hp.mkl (fun M' hm' hf' => go M' (TC.mk h hf') ?_)⟩
      rw [mkM_tr hv] at hm'
      rw [if_pos (decide_eq_true hkd)] at es
      unfold edV at hm' ⊢
      rw [es]; exact hm'
theorem ct_cl247 (hW : WO W) (hA : MA W s) (hE : ∀ p M', TC G US A S W k br nq nl nf nk B F x s M' → tMk p M' → (∀ n, p.1 n = mrk W s n) → ∃ n, w_Model_collect_L350 0 Q n 0 0 1 M') : ∀ n i p M, 801 - i < n → i ≤ p.2.length → okP p → DM (rtA W s) (edA s) p.1 (p.2.drop i) → TC G US A S W k br nq nl nf nk B F x s M → tMk p M → w_Model_collect_L247 0 Q n (Int32.ofNat i) M
  | 0, i, p, M, hn, hi, hp, hD, h, hm => absurd hn (by have := hp.len; omega)
  | n + 1, i, p, M, hn, hi, hp, hD, h, hm => by
    have hlen := hp.len
    unfold w_Model_collect_L247
    have e112 : mI M 11 0 112 = Int32.ofNat p.2.length := hm.2.2.1
    rw [e112]
    by_cases ei : i = p.2.length
    · refine itp (le_oN (by omega) (by omega)) (hE p M h hm (fun n => ?_))
      rw [ei, List.drop_length] at hD
      have this : p.1 n = true ↔ Rg (rtA W s) (edA s) n := hD.fin n
      cases e1 : p.1 n with
      | true => exact (mrk_iff.2 (this.1 e1)).symm
      | false =>
        cases e2 : mrk W s n with
        | true => have := this.2 (mrk_iff.1 e2); rw [e1] at this; cases this
        | false => rfl
    refine itn (nle_oN (by omega) (by omega)) ?_
    have hil : i < p.2.length := by omega
    obtain ⟨r, er⟩ : ∃ r, p.2.getD i 0 = r := ⟨_, rfl⟩
    have hri : p.2[i]? = some r := by
      rw [List.getElem?_eq_getElem hil]
      rw [List.getD_eq_getElem?_getD, List.getElem?_eq_getElem hil] at er
      exact congrArg some er
    have hrm : r ∈ p.2 := List.mem_of_getElem? hri
    have hr := hp.2 r hrm
    have hth := rg_th hW.1 hA (hD.1 r hr.2)
    have e120 : mI M 120 0 i = Int32.ofNat r := by rw [hm.2.2.2 i hil, er]
    obtain ⟨⟨l7, -⟩, -, -, eO, -⟩ := h.1.2.2.1.1
    obtain ⟨o7, -⟩ := eO r hth
    rw [oN_tnc (k := i) (by omega), e120, oN_tnc (k := r) (by omega), hm.1.2]
    refine ⟨(vp_oN (by omega)).mpr (by omega), k, h.1.r45, by rw [l7]; exact (vp_oN (by omega)).mpr (by omega), _, rfl, ?_⟩
    rw [o7]
    have hdr : p.2.drop i = r :: p.2.drop (i + 1) := by
      rw [List.drop_eq_getElem_cons hil]
      congr 1
      rw [List.getElem?_eq_getElem hil] at hri
      exact Option.some.inj hri
    have hst : ∀ q, q = mkL p (edA s r) → DM (rtA W s) (edA s) q.1 (q.2.drop (i + 1)) := fun q hq => by
      obtain ⟨-, -, ⟨l, el⟩, -⟩ := mkL_in (xs := edA s r) (p := p)
      have ed : q.2.drop (i + 1) = p.2.drop (i + 1) ++ l := by rw [hq, el, List.drop_append_of_le_length (by omega)]
      refine hD.step (p := p) (r := r) hr.2 hq (fun n hn => ?_) (fun n hn hf => ?_)
      · rw [hdr] at hn
        rcases List.mem_cons.1 hn with z | z
        · exact Or.inl z
        · right; rw [ed]; exact List.mem_append.2 (Or.inl z)
      · rw [ed]
        rw [hq, el] at hn
        rcases List.mem_append.1 hn with z | z
        · rw [(hp.2 n z).2] at hf; cases hf
        · exact List.mem_append.2 (Or.inr z)
    have hle : p.2.length ≤ (mkL p (edA s r)).2.length := by
      obtain ⟨-, -, ⟨l, el⟩, -⟩ := mkL_in (xs := edA s r) (p := p)
      rw [el, List.length_append]; omega
    cases ec : (gOb s r).1 with
    | none =>
      refine ⟨1, ?_⟩
      unfold w_Model_collect_L276
      refine itp (show (-1 : Int32) = -1 from rfl) ?_
      unfold w_Model_collect_j337
      have ee : edA s r = [] := by
        refine selL_no (fun k hk => ?_)
        rcases (ob_in hA.1.1 hth).2 with ⟨-, z⟩ | ⟨d', z, -⟩
        · rw [z k hk]; rfl
        · rw [ec] at z; cases z
      rw [lit32 1, oN_add]
      exact ct_cl247 hW hA hE n (i + 1) p M (by omega) (by omega) hp (hst p (by rw [ee]; rfl)) h hm
    | some d =>
      refine ⟨(gOb s r).2.2.1 + 1, ?_⟩
      refine ct_cl276 hW hA.1.1 (by omega) hth ec hp (fun M' h' hm' => ?_) _ 0 M (Nat.zero_le _) (by omega) h hm
      rw [lit32 1, oN_add]
      exact ct_cl247 hW hA hE n (i + 1) _ M' (by omega) (by omega) hp.mkl (hst _ rfl) h' hm'
end
