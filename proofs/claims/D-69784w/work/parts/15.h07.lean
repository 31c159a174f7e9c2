/-! THE MACHINE IN THE TWIN: all but the thread that acts; the trace -/
/-- all but the thread that acts -/
def TXm (G : List Sl) (US : UST) (A : List Nm) (S : List Sg) (W : List Cls) (w : Nat) (br : Int32) (nq nl nf nk B F : Nat) (x : Int32) (t : Nat) (s : Ms) (M : Mem) : Prop := LKt G US A S W w br nq nl nf nk (zL s) M ∧ (uC W w s M ∧ uS W w s M) ∧ (uH w s M ∧ uF G w F s M) ∧ (uE w s M ∧ uD w s M ∧ uT w x s M) ∧ (mR M 11 0 46 = some (13, 3 * w + t) ∧ mI M 11 0 47 = Int32.ofNat t ∧ mL M 704 w = 3 ∧ ∀ t', t' < 3 → mR M 704 w t' = some (13, 3 * w + t')) ∧ (mS M ≤ B + 2 * rs G M ∧ 51 ≤ mL M 110 0 ∧ mL M 110 0 < 1000000) ∧ ∀ t', t' < 3 → t' ≠ t → uN A S w t' (zN s t') M
/-- and the thread, with units U -/
def TM (G : List Sl) (US : UST) (A : List Nm) (S : List Sg) (W : List Cls) (w : Nat) (br : Int32) (nq nl nf nk B F : Nat) (x : Int32) (bb : Bool) (t : Nat) (s : Ms) (U : List Un) (M : Mem) : Prop := TXm G US A S W w br nq nl nf nk B F x t s M ∧ uL A S (3 * w + t) (zN s t) M ∧ uU (3 * w + t) U M ∧ (lSt (zN s t) = 1 → mI M 13 (3 * w + t) 4 = 0 ∨ bb = true)
/-- the cells of the thread that acts -/
abbrev STh : Nat := (21824483572976630389720306540106917481558186856837459623626327663666613626438005172805168527490350034154166620997135403309581966859893879484901401516762589811752298648473583702516026553122964192195256304506673839963250242759291416034309954335292394057208135553734294971950274876977685617361341923895031010359906700957916646652820220697805357420383434857111611042016047290583715172403277798381928905464972059424505207065266608763889993850618378860900214642385088933013112828214188681199717316993522823819091015401268741406674882900201169100754790550755250611428993693159734202524754481067494118470044850458669133331447089796631871185073401537006360907430947683242727498679102746741713440760131536828227621543182658310136389428193740012462942441107321091302611955556871784254814562675973777963562238799936240933112890902490387255166512855817544326168849328305744303237638923465475530079457938171135846515612424726789239628523023156389658974350611109288470864550953703402216193601092351843955877321566235372560746610430706926008125918773502809313501851710024829531836273257622511768544990986240)
def AgU (w t : Nat) (M M' : Mem) : Prop := Fr STh M M' ∧ ∀ f i k, tnF f = true → i ≠ 3 * w + t → mI M' f i k = mI M f i k
section
variable {G : List Sl} {US : UST} {A : List Nm} {S : List Sg} {W : List Cls} {w c k L t : Nat} {br x : Int32} {bb : Bool} {nq nl nf nk B F : Nat} {M M' M1 : Mem} {s s' : Ms} {l : Ln} {U : List Un} {R : Nat}
theorem AgU.rf : AgU w t M M := ⟨Fr.rf _ _, fun _ _ _ _ _ => rfl⟩
theorem AgU.trans (h : AgU w t M M1) (h1 : AgU w t M1 M') : AgU w t M M' := ⟨h.1.trans h1.1, fun f i k a b => (h1.2 f i k a b).trans (h.2 f i k a b)⟩
theorem AgU.wa {f k : Nat} {v : Int32} (h : AgU w t M M1) (h20 : Nat.ble 20 f = true := by rfl) (hS : STh.testBit f = true := by rfl) : AgU w t M (sI M1 f (3 * w + t) k v) := ⟨Fr.wIa h20 hS h.1, fun g i j a b => by rw [mI_sI, if_neg (fun z => b z.2.1)]; exact h.2 g i j a b⟩
theorem AgU.w13 {k : Nat} {v : Int32} (h : AgU w t M M1) (hS : STh.testBit (cd 13 k) = true := by rfl) : AgU w t M (sI M1 13 (3 * w + t) k v) := ⟨Fr.wI hS h.1, fun g i j a b => by rw [mI_sI, if_neg (fun z => b z.2.1)]; exact h.2 g i j a b⟩
theorem AgU.w11 {k : Nat} {v : Int32} (h : AgU w t M M1) (hS : STh.testBit (cd 11 k) = true := by rfl) : AgU w t M (sI M1 11 0 k v) := ⟨Fr.wI hS h.1, fun g i j a b => by rw [mI_sI, if_neg (fun z => by rw [z.1] at a; cases a)]; exact h.2 g i j a b⟩
theorem Fr.rsl {G : List Sl} (hf : Fr R M M') (hG : Ga G) (hS : sOk R = true := by rfl) : rs G M' = rs G M ∧ mS M' = mS M := by
  refine ⟨rs_same (fun x hx => (rd_fr hf hG hS hx).2), ?_⟩
  have : R.testBit 4999 = false := by
    unfold sOk at hS
    simp only [Bool.and_eq_true, Bool.not_eq_true'] at hS
    exact hS.2.2.2.2.2.2.2.2
  exact hf.ms this
theorem TXm.ga (h : TXm G US A S W w br nq nl nf nk B F x t s M) : Ga G := h.1.1.2.1.1
theorem tn_L (hf : Fr STh M M') {f : Nat} (hl : tnF f = true) (i : Nat) : mL M' f i = mL M f i := by
  rcases tnF_in hl with z | z | z | z | z | z | z | z | z <;> rw [z]
  · exact hf.L (f := 13) rfl _
  · exact hf.L (f := 170) rfl _
  · exact hf.L (f := 171) rfl _
  · exact hf.L (f := 172) rfl _
  · exact hf.L (f := 173) rfl _
  · exact hf.L (f := 174) rfl _
  · exact hf.L (f := 175) rfl _
  · exact hf.L (f := 176) rfl _
  · exact hf.L (f := 525) rfl _
theorem TXm.ag (h : TXm G US A S W w br nq nl nf nk B F x t s M) (ha : AgU w t M M') : TXm G US A S W w br nq nl nf nk B F x t s M' := by
  have hg := h.ga
  obtain ⟨a1, ⟨b1, b2'⟩, ⟨c1, c2⟩, ⟨d1, d2, d3⟩, ⟨e1, e2, e3, e4⟩, ⟨m1, m2, m3⟩, g⟩ := h
  have hf := ha.1
  have hr := hf.rsl hg
  refine ⟨a1.mfr hf, ⟨b1.fr hf, b2'.fr hf⟩, ⟨c1.fr hf, c2.fr hg hf⟩, ⟨d1.fr hf, d2.fr hf, d3.fr hf⟩, ⟨(hf.R (f := 11) (k := 46) rfl 0).trans e1, (hf.I (f := 11) (k := 47) rfl 0).trans e2, (hf.L (f := 704) rfl w).trans e3, fun t' ht => (hf.Ra (f := 704) rfl rfl w t').trans (e4 t' ht)⟩, ⟨by rw [hr.1, hr.2]; exact m1, by rw [hf.L (f := 110) rfl]; exact ⟨m2, m3⟩⟩, fun t' ht hne => ?_⟩
  exact (g t' ht hne).eq (fun f k hl _ => ha.2 f _ k hl (by omega)) (fun f hl => tn_L hf hl _)
/-- only the trace -/
abbrev SNt : Nat := (3750463593319261859049560572536379326347120748232650168995664785255749325284057963186937584563232326165552794886835805379338967904536222104531669279606579071427717427163686754603652839531819038921385731310395164580019177326601525730843510337924585703648345029055534657140675277076148448624230181191405804413988226176623632745109899480014893311255597412785152405786126047057188349874116972582921672983627355155587477322347152595875635252566591470881960605202880412305924801607585443966177406246335459048773819252523003419311013398146631922339710260849682679015198116819557822031542529265992035760469272395272634285834475347766120666044211036792264055580436512443449344089671695099452095265838281586554419688443838415494562225356042900862851212971852563763566614355966183901996963942991988977283932846562052561254927393417376583169635495909400168707102973642964526868670898889341333211751404269490155424575376230874529743809826161042054399706057229253435857707751723131004475228134281778031044502815683409899570069047601007217299162231987087867904)
theorem nt_I (hf : Fr SNt M M') {f k : Nat} (hl : tnF f = true) (h23 : f = 13 → k < 23) (i : Nat) : mI M' f i k = mI M f i k := unO_I (R := SNt) rfl hf hl h23 i
theorem nt_L (hf : Fr SNt M M') {f : Nat} (hl : tnF f = true) (i : Nat) : mL M' f i = mL M f i := by
  rcases tnF_in hl with z | z | z | z | z | z | z | z | z <;> rw [z] <;> exact hf.L rfl _
theorem TXm.l5 (h : TXm G US A S W w br nq nl nf nk B F x t s M) : W.length ≤ 51 := h.1.1.l51
theorem TXm.nt (h : TXm G US A S W w br nq nl nf nk B F x t s M) {E : List Ev} (hf : Fr SNt M M') (hE : uE w (yE s E) M') : TXm G US A S W w br nq nl nf nk B F x t (yE s E) M' := by
  have hg := h.ga
  obtain ⟨a1, ⟨b1, b2'⟩, ⟨c1, c2⟩, ⟨d1, d2, d3⟩, ⟨e1, e2, e3, e4⟩, ⟨m1, m2, m3⟩, g⟩ := h
  have hr := hf.rsl hg
  refine ⟨a1.mfr hf, ⟨b1.fr hf, b2'.fr hf⟩, ⟨c1.fr hf, c2.fr hg hf⟩, ⟨hE, d2.fr hf, d3.fr hf⟩, ⟨(hf.R (f := 11) (k := 46) rfl 0).trans e1, (hf.I (f := 11) (k := 47) rfl 0).trans e2, (hf.L (f := 704) rfl w).trans e3, fun t' ht => (hf.Ra (f := 704) rfl rfl w t').trans (e4 t' ht)⟩, ⟨by rw [hr.1, hr.2]; exact m1, by rw [hf.L (f := 110) rfl]; exact ⟨m2, m3⟩⟩, fun t' ht hne => ?_⟩
  exact (g t' ht hne).eq (fun f k hl h23 => nt_I hf hl h23 _) (fun f hl => nt_L hf hl _)
/-- something comes to the trace -/
theorem ct_note {what k : Nat} {m : Option Nat} {Q : Mem → Prop} (h : TXm G US A S W w br nq nl nf nk B F x t s M) (hE : (zE s).length ≤ 400) (h3 : mI M 13 (3 * w + t) 3 = Int32.ofNat (lSp (zN s t))) (hQ : ∀ M', TXm G US A S W w br nq nl nf nk B F x t (evS s t what k m) M' → Fr SNt M M' → Q M') : w_Model_note 0 (Int32.ofNat what) (oJt k m) Q M := by
  have R5 := h.1.1.r45
  have R6 := h.2.2.2.2.1.1
  have e47 := h.2.2.2.2.1.2.1
  obtain ⟨⟨l1, l2, l3, l4⟩, d1, d4⟩ := h.2.2.2.1.1
  unfold w_Model_note
  refine ⟨w, R5, ?_⟩
  rw [d1]
  by_cases cf : 400 ≤ (zE s).length
  · refine itp (le_oN (a := 400) cf (by omega)) (hQ M ?_ (Fr.rf _ _))
    have : evS s t what k m = s := by unfold evS; rw [if_neg (by omega)]
    rw [this]; exact h
  have he : evS s t what k m = yE s (zE s ++ [(what, t, k, m, lSp (zN s t))]) := by unfold evS; rw [if_pos (by omega)]
  rw [he] at hQ
  refine itn (nle_oN (a := 400) (by omega) (by omega)) ?_
  generalize hn : (zE s).length = n at *
  rw [oN_tnc (k := n) (by omega)]
  have vp : ∀ f, mL M f w = 400 → vp_in (Int32.ofNat n) (mL M f w) := fun f hl => by rw [hl]; exact (vp_oN (by omega)).mpr (by omega)
  refine ⟨w, R5, vp 165 l1, w, R5, vp 166 l2, _, rfl, w, R5, vp 167 l3, w, R5, 3 * w + t, R6, vp 168 l4, _, rfl, w, R5, ?_⟩
  have r47 : ∀ v, mI (sI M 165 w n v) 11 0 47 = Int32.ofNat t := fun v => by rw [mI_sI, if_neg (fun z => absurd z.1 (by decide))]; exact e47
  rw [r47]
  have r3 : ∀ v v' v'', mI (sI (sI (sI M 165 w n v) 166 w n v') 167 w n v'') 13 (3 * w + t) 3 = Int32.ofNat (lSp (zN s t)) := fun v v' v'' => by
    simp only [mI_sI, Nat.reduceEqDiff, false_and, if_false]; exact h3
  rw [r3]
  have r70 : ∀ v v' v'' v3, mI (sI (sI (sI (sI M 165 w n v) 166 w n v') 167 w n v'') 168 w n v3) 12 w 70 = Int32.ofNat n := fun v v' v'' v3 => by
    simp only [mI_sI, Nat.reduceEqDiff, false_and, if_false]; exact d1
  rw [r70, show Int32.ofNat n + (1 : Int32) = Int32.ofNat (n + 1) from oN_add n 1]
  have hf : Fr SNt M (sI (sI (sI (sI (sI M 165 w n (Int32.ofNat what)) 166 w n (Int32.ofNat t)) 167 w n (oJt k m)) 168 w n (Int32.ofNat (lSp (zN s t)))) 12 w 70 (Int32.ofNat (n + 1))) := Fr.wI rfl (Fr.wIa rfl rfl (Fr.wIa rfl rfl (Fr.wIa rfl rfl (Fr.wIa rfl rfl (Fr.rf _ _)))))
  refine hQ _ (h.nt hf ⟨⟨l1, l2, l3, l4⟩, ?_, fun i hi => ?_⟩) hf
  · show _ = Int32.ofNat (zE s ++ [_]).length
    rw [List.length_append, List.length_singleton, hn, mI_sI, if_pos ⟨rfl, rfl, rfl⟩]
  · have hi : i < (zE s ++ [(what, t, k, m, lSp (zN s t))]).length := hi
    rw [List.length_append, List.length_singleton, hn] at hi
    rw [show zE (yE s (zE s ++ [(what, t, k, m, lSp (zN s t))])) = zE s ++ [(what, t, k, m, lSp (zN s t))] from rfl]
    by_cases ei : i < n
    · have eg : (zE s ++ [(what, t, k, m, lSp (zN s t))]).getD i (0, 0, 0, none, 0) = (zE s).getD i (0, 0, 0, none, 0) := by
        rw [List.getD_eq_getElem?_getD, List.getElem?_append_left (by omega), List.getD_eq_getElem?_getD]
      rw [eg]
      simp only [mI_sI, Nat.reduceEqDiff, false_and, if_false, true_and, show ¬ i = n from by omega]
      exact d4 i ei
    · have : i = n := by omega
      subst this
      have eg : (zE s ++ [(what, t, k, m, lSp (zN s t))]).getD i (0, 0, 0, none, 0) = (what, t, k, m, lSp (zN s t)) := by
        rw [List.getD_eq_getElem?_getD, List.getElem?_append_right (by omega), hn, Nat.sub_self]; rfl
      rw [eg]
      simp only [mI_sI, Nat.reduceEqDiff, false_and, if_false, true_and, if_true, and_self]
end
