/-! B: the end of a method in the works: labels become numbers -/
/-- what is written: targets of jumps, of picks, handlers' three numbers -/
def Wr (w q pf h : Nat) (M M' : Mem) : Prop := (∀ f i k, ¬ (f = 67 ∧ i = w ∧ q ≤ k ∧ ∃ o, isJ o ∧ mI M 66 w k = Int32.ofNat o) → ¬ (f = 74 ∧ i = w ∧ pf ≤ k) → ¬ (f = 75 ∧ i = w ∧ 4 * h ≤ k ∧ k % 4 ≠ 3) → mI M' f i k = mI M f i k) ∧ (∀ f i k, mR M' f i k = mR M f i k ∧ mJ M' f i k = mJ M f i k) ∧ ∀ f i, mL M' f i = mL M f i
theorem Wr.rf (w q pf h : Nat) (M : Mem) : Wr w q pf h M M := ⟨fun _ _ _ _ _ _ => rfl, fun _ _ _ => ⟨rfl, rfl⟩, fun _ _ => rfl⟩
theorem Wr.o {w q pf h : Nat} {M M' : Mem} (a : Wr w q pf h M M') {f : Nat} (hf : f ≠ 67 ∧ f ≠ 74 ∧ f ≠ 75) (i k : Nat) : mI M' f i k = mI M f i k := a.1 f i k (fun q => hf.1 q.1) (fun q => hf.2.1 q.1) (fun q => hf.2.2 q.1)
theorem Wr.trans {w q q' pf pf' h h' : Nat} {M M1 M2 : Mem} (a : Wr w q pf h M M1) (b : Wr w q' pf' h' M1 M2) (hq : q ≤ q') (hp : pf ≤ pf') (hh : h ≤ h') : Wr w q pf h M M2 := by
  refine ⟨fun f i k c1 c2 c3 => ?_, fun f i k => ⟨(b.2.1 f i k).1.trans (a.2.1 f i k).1, (b.2.1 f i k).2.trans (a.2.1 f i k).2⟩, fun f i => (b.2.2 f i).trans (a.2.2 f i)⟩
  rw [b.1 f i k (fun z => c1 ⟨z.1, z.2.1, by omega, ?_⟩) (fun z => c2 ⟨z.1, z.2.1, by omega⟩) (fun z => c3 ⟨z.1, z.2.1, by omega, z.2.2.2⟩)]
  · exact a.1 f i k c1 c2 c3
  · obtain ⟨o, o1, o2⟩ := z.2.2.2
    exact ⟨o, o1, by rw [← a.o (f := 66) (by decide)]; exact o2⟩
theorem Wr.s67 {w q pf h k o : Nat} {M M1 : Mem} {v : Int32} (a : Wr w q pf h M M1) (hk : q ≤ k) (ho : isJ o) (h66 : mI M 66 w k = Int32.ofNat o) : Wr w q pf h M (sI M1 67 w k v) :=
  ⟨fun f i k' c1 c2 c3 => by rw [mI_sI, if_neg (fun z => c1 ⟨z.1, z.2.1, by omega, o, ho, by rw [z.2.2]; exact h66⟩)]; exact a.1 f i k' c1 c2 c3, a.2.1, a.2.2⟩
theorem Wr.s74 {w q pf h k : Nat} {M M1 : Mem} {v : Int32} (a : Wr w q pf h M M1) (hk : pf ≤ k) : Wr w q pf h M (sI M1 74 w k v) :=
  ⟨fun f i k' c1 c2 c3 => by rw [mI_sI, if_neg (fun z => c2 ⟨z.1, z.2.1, by omega⟩)]; exact a.1 f i k' c1 c2 c3, a.2.1, a.2.2⟩
theorem Wr.s75 {w q pf h k : Nat} {M M1 : Mem} {v : Int32} (a : Wr w q pf h M M1) (hk : 4 * h ≤ k) (h3 : k % 4 ≠ 3) : Wr w q pf h M (sI M1 75 w k v) :=
  ⟨fun f i k' c1 c2 c3 => by rw [mI_sI, if_neg (fun z => c3 ⟨z.1, z.2.1, by omega, by rw [z.2.2]; exact h3⟩)]; exact a.1 f i k' c1 c2 c3, a.2.1, a.2.2⟩
def tgI (LS : List Lb) (w q pf : Nat) (i : PI) (M : Mem) : Prop := (isJ i.1 → mI M 67 w q = Int32.ofNat (lbN LS (i.2.1.2.2.1.getD 0 []))) ∧ (i.1 = 40 → ∀ j, j < i.2.1.2.2.1.length → mI M 74 w (pf + j) = Int32.ofNat (lbN LS (i.2.1.2.2.1.getD j [])))
def tgH (LS : List Lb) (w h : Nat) (x : PH) (M : Mem) : Prop := mI M 75 w (4 * h) = Int32.ofNat (lbN LS x.1) ∧ mI M 75 w (4 * h + 1) = Int32.ofNat (lbN LS x.2.1) ∧ mI M 75 w (4 * h + 2) = Int32.ofNat (lbN LS x.2.2.1)
def tgE (LS : List Lb) (w : Nat) : Nat → Nat → Nat → List (PI ⊕ PH) → Mem → Prop
  | _, _, _, [], _ => True
  | q, pf, h, .inl i :: E, M => tgI LS w q pf i M ∧ tgE LS w (q + 1) (pf + pkN i) h E M
  | q, pf, h, .inr x :: E, M => tgH LS w h x M ∧ tgE LS w q pf (h + 1) E M
theorem tgI.wr {LS : List Lb} {w q pf h : Nat} {i : PI} {M M' : Mem} (a : tgI LS w q pf i M) (b : Wr w (q + 1) (pf + pkN i) h M M') : tgI LS w q pf i M' := by
  refine ⟨fun c => ?_, fun c j hj => ?_⟩
  · rw [b.1 67 w q (fun z => by omega) (fun z => absurd z.1 (by decide)) (fun z => absurd z.1 (by decide))]; exact a.1 c
  · have hp : pkN i = i.2.1.2.2.1.length := by unfold pkN; rw [if_pos c]
    rw [b.1 74 w _ (fun z => absurd z.1 (by decide)) (fun z => by rw [hp] at z; omega) (fun z => absurd z.1 (by decide))]; exact a.2 c j hj
theorem tgH.wr {LS : List Lb} {w q pf h : Nat} {x : PH} {M M' : Mem} (a : tgH LS w h x M) (b : Wr w q pf (h + 1) M M') : tgH LS w h x M' := by
  unfold tgH
  rw [b.1 75 w _ (fun z => absurd z.1 (by decide)) (fun z => absurd z.1 (by decide)) (fun z => by omega), b.1 75 w _ (fun z => absurd z.1 (by decide)) (fun z => absurd z.1 (by decide)) (fun z => by omega), b.1 75 w _ (fun z => absurd z.1 (by decide)) (fun z => absurd z.1 (by decide)) (fun z => by omega)]
  exact a
def l10 (LS : List Lb) (H : List PH) : List Nat := H.flatMap (fun h => if lbN LS h.2.1 ≤ lbN LS h.1 then [h.2.2.2.2] else [])
theorem lbN_of {LS : List Lb} {nm : Nm} {j : Nat} (h : lbI LS nm = some j) : lbN LS nm = (glb LS j).2.1 := by
  unfold lbN; rw [lbl_lbI, h]; rfl
theorem c_end157 {A : List Nm} {LS : List Lb} {U : List Us} {E0 : List (PI ⊕ PH)} {w n q0 np0 nh0 : Nat} {Q X : Mem → Prop} {M0 : Mem} (hL : cLb A LS M0) (hU : cUs A U M0) (hUE : U = usE q0 np0 nh0 E0) (hA : A.length < 1000000) (hl : LS.length ≤ 3100) (hl2 : U.length ≤ 3100) (hLn : ∀ f, 23 ≤ f → f ≤ 29 → mL M0 f 0 = 3100) (hw : mR M0 3 0 1 = some (5, w)) (hfd : ∀ u ∈ U, ∃ j, lbI LS u.1 = some j) (h66 : ∀ j, j < (lfE E0).length → mI M0 66 w (q0 + j) = Int32.ofNat (gpi (lfE E0) j).1) (hlb : ∀ i ∈ lfE E0, lbOk i.1 i.2.1.2.2.1) (hln : ∀ x ∈ rgE E0, x.2.2.2.2 ≤ 100000)
    (r7 : q0 + (lfE E0).length ≤ mL M0 67 w) (r7' : mL M0 67 w < 1000000) (r4 : np0 + pkS (lfE E0) ≤ mL M0 74 w) (r4' : mL M0 74 w < 1000000) (r5 : 4 * (nh0 + (rgE E0).length) ≤ mL M0 75 w) (r5' : mL M0 75 w < 1000000)
    (hQ : ∀ d M2, Wr w q0 np0 nh0 M0 M2 → tgE LS w q0 np0 nh0 E0 M2 → w_Reader_endMethod_L157 0 Q X (d + 1) (Int32.ofNat n) (wv (minL (l10 LS (rgE E0)))) (Int32.ofNat U.length) M2) : ∃ d, w_Reader_endMethod_L157 0 Q X d (Int32.ofNat n) 2147483647 0 M0 := by
  have st : ∀ M1, Wr w q0 np0 nh0 M0 M1 → cLb A LS M1 ∧ cUs A U M1 := fun M1 a => by
    refine ⟨⟨by rw [a.o (by decide)]; exact hL.1, fun i hi => ?_⟩, ⟨by rw [a.o (by decide)]; exact hU.1, fun i hi => ?_⟩⟩
    · rw [a.o (f := 23) (by decide), a.o (f := 24) (by decide), a.o (f := 25) (by decide)]; exact hL.2 i hi
    · rw [a.o (f := 26) (by decide), a.o (f := 27) (by decide), a.o (f := 28) (by decide), a.o (f := 29) (by decide)]; exact hU.2 i hi
  -- one use
  have one : ∀ d k (wo : Int32) M1 nm kd ix line, k < U.length → Wr w q0 np0 nh0 M0 M1 → gu U k = (nm, kd, ix, line) → ix < 1000000 → kd ≤ 4 →
      ((kd = 0 ∧ ix < mL M0 67 w ∧ w_Reader_endMethod_j255 0 Q X (w_Reader_endMethod_L157 0 Q X d) (Int32.ofNat n) wo (Int32.ofNat k) (Int32.ofNat (lbN LS nm)) (sI M1 67 w ix (Int32.ofNat (lbN LS nm)))) ∨ (kd = 1 ∧ ix < mL M0 74 w ∧ w_Reader_endMethod_j255 0 Q X (w_Reader_endMethod_L157 0 Q X d) (Int32.ofNat n) wo (Int32.ofNat k) (Int32.ofNat (lbN LS nm)) (sI M1 74 w ix (Int32.ofNat (lbN LS nm)))) ∨ (2 ≤ kd ∧ ix < mL M0 75 w ∧ w_Reader_endMethod_j255 0 Q X (w_Reader_endMethod_L157 0 Q X d) (Int32.ofNat n) wo (Int32.ofNat k) (Int32.ofNat (lbN LS nm)) (sI M1 75 w ix (Int32.ofNat (lbN LS nm))))) →
      w_Reader_endMethod_L157 0 Q X (d + 1) (Int32.ofNat n) wo (Int32.ofNat k) M1 := by
    intro d k wo M1 nm kd ix line hk hW hg hix hkd hc
    obtain ⟨cL, cU⟩ := st M1 hW
    obtain ⟨⟨e1, e2⟩, e3, e4, e5⟩ := cU.2 k hk
    rw [hg] at e1 e2 e3 e4 e5
    obtain ⟨j, hj⟩ := hfd _ (gu_mem hk)
    rw [hg] at hj
    have hs := lbI_spec (nm := nm) (LS := LS)
    rw [hj] at hs
    have vk : ∀ f, 23 ≤ f → f ≤ 29 → vp_in (Int32.ofNat k) (mL M1 f 0) := fun f a c => by rw [hW.2.2, hLn f a c]; exact (vp_oN (by omega)).mpr (by omega)
    obtain ⟨-, ⟨f1, f2⟩, -⟩ := cL.2 j hs.1
    have hw1 : mR M1 3 0 1 = some (5, w) := (hW.2.1 3 0 1).1.trans hw
    have tk : (Int32.ofNat k).toNatClampNeg = k := oN_tnc (by omega)
    have ti : (Int32.ofNat ix).toNatClampNeg = ix := oN_tnc (by omega)
    unfold w_Reader_endMethod_L157
    rw [cU.1]
    refine itn (nle_oN (by omega) (by omega)) ⟨vk 26 (by omega) (by omega), ?_⟩
    rw [tk, e1]
    refine c_told cL e2 hA hl (by rw [hW.2.2]; exact hLn 23 (by omega) (by omega)) ?_
    rw [hj]
    refine ⟨by show vp_in (Int32.ofNat j) _; rw [hW.2.2, hLn 24 (by omega) (by omega)]; exact (vp_oN (by omega)).mpr (by have := hs.1; omega), vk 27 (by omega) (by omega), ?_⟩
    have hv : mI M1 24 0 (oC (some j)).toNatClampNeg = Int32.ofNat (lbN LS nm) := by
      rw [show oC (some j) = Int32.ofNat j from rfl, oN_tnc (by have := hs.1; omega), f1, lbN_of hj]
    rw [hv, e3, e4, ti]
    rcases hc with ⟨c1, c2, c3⟩ | ⟨c1, c2, c3⟩ | ⟨c1, c2, c3⟩
    · exact itp (by show Int32.ofNat kd = 0; rw [c1]; rfl) ⟨w, hw1, vk 28 (by omega) (by omega), by rw [hW.2.2]; exact (vp_oN (by show ix < _; omega)).mpr c2, _, rfl, c3⟩
    · exact itn (ne_oN (b := 0) (by show kd ≠ 0; omega) (by show kd < _; omega) (by omega)) ⟨vk 27 (by omega) (by omega), itp (by show Int32.ofNat kd = 1; rw [c1]; rfl) ⟨w, hw1, vk 28 (by omega) (by omega), by rw [hW.2.2]; exact (vp_oN (by show ix < _; omega)).mpr c2, _, rfl, c3⟩⟩
    · exact itn (ne_oN (b := 0) (by show kd ≠ 0; omega) (by show kd < _; omega) (by omega)) ⟨vk 27 (by omega) (by omega), itn (ne_oN (b := 1) (by show kd ≠ 1; omega) (by show kd < _; omega) (by omega)) ⟨w, hw1, vk 28 (by omega) (by omega), by rw [hW.2.2]; exact (vp_oN (by show ix < _; omega)).mpr c2, _, rfl, c3⟩⟩
  have nxt : ∀ d k (wo v : Int32) M2, k < U.length → Wr w q0 np0 nh0 M0 M2 → (gu U k).2.1 ≠ 3 → (gu U k).2.1 ≤ 4 → w_Reader_endMethod_L157 0 Q X d (Int32.ofNat n) wo (Int32.ofNat (k + 1)) M2 → w_Reader_endMethod_j255 0 Q X (w_Reader_endMethod_L157 0 Q X d) (Int32.ofNat n) wo (Int32.ofNat k) v M2 := by
    intro d k wo v M2 hk hW h3 h4 hn
    obtain ⟨-, e3, -⟩ := (st M2 hW).2.2 k hk
    unfold w_Reader_endMethod_j255
    refine ⟨by rw [hW.2.2, hLn 27 (by omega) (by omega)]; exact (vp_oN (by omega)).mpr (by omega), ?_⟩
    rw [oN_tnc (by omega), e3]
    refine itn (ne_oN (b := 3) h3 (by omega) (by omega)) ?_
    unfold w_Reader_endMethod_j297
    rw [lit32 1, oN_add]; exact hn
  have cmp : ∀ d k (wl : List Nat) (vv a0 ix line : Nat) (nm : Nm) M2, k < U.length → Wr w q0 np0 nh0 M0 M2 → gu U k = (nm, 3, ix, line) → 1 ≤ ix → ix < mL M0 75 w → mI M2 75 w (ix - 1) = Int32.ofNat a0 → a0 ≤ 80 → vv ≤ 80 → line ≤ 100000 → (∀ x ∈ wl, x ≤ 100000) → w_Reader_endMethod_L157 0 Q X d (Int32.ofNat n) (wv (minL (wl ++ if vv ≤ a0 then [line] else []))) (Int32.ofNat (k + 1)) M2 → w_Reader_endMethod_j255 0 Q X (w_Reader_endMethod_L157 0 Q X d) (Int32.ofNat n) (wv (minL wl)) (Int32.ofNat k) (Int32.ofNat vv) M2 := by
    intro d k wl vv a0 ix line nm M2 hk hW hg h1 hix ha ha0 hvv hline hwl hn
    obtain ⟨-, e3, e4, e5⟩ := (st M2 hW).2.2 k hk
    rw [hg] at e3 e4 e5
    have vk : ∀ f, 23 ≤ f → f ≤ 29 → vp_in (Int32.ofNat k) (mL M2 f 0) := fun f a c => by rw [hW.2.2, hLn f a c]; exact (vp_oN (by omega)).mpr (by omega)
    have tk : (Int32.ofNat k).toNatClampNeg = k := oN_tnc (by omega)
    have ei : Int32.ofNat ix - (1 : Int32) = Int32.ofNat (ix - 1) := by rw [lit32 1, oN_sub h1]
    have e4' : mI M2 28 0 k = Int32.ofNat ix := e4
    have e5' : mI M2 29 0 k = Int32.ofNat line := e5
    unfold w_Reader_endMethod_j255
    refine ⟨vk 27 (by omega) (by omega), ?_⟩
    rw [tk, e3]
    refine itp rfl ⟨w, (hW.2.1 3 0 1).1.trans hw, vk 28 (by omega) (by omega), ?_⟩
    rw [e4', ei, oN_tnc (by omega), ha]
    refine ⟨by rw [hW.2.2]; exact (vp_oN (by omega)).mpr (by omega), ?_⟩
    by_cases c : vv ≤ a0
    · refine itn (nlt_oN c (by omega)) ⟨vk 29 (by omega) (by omega), ?_⟩
      rw [e5']
      refine c_min (minL_le hwl) hline ?_
      unfold w_Reader_endMethod_j297
      rw [lit32 1, oN_add]
      rw [if_pos c, minL_app] at hn; exact hn
    · refine itp (lt_oN (by omega) (by omega)) ?_
      unfold w_Reader_endMethod_j297
      rw [lit32 1, oN_add]
      rw [if_neg c, List.append_nil] at hn; exact hn
  have lb80 : ∀ nm, (∃ j, lbI LS nm = some j) → lbN LS nm ≤ 80 := fun nm ⟨j, hj⟩ => by
    have hs := lbI_spec (nm := nm) (LS := LS)
    rw [hj] at hs
    rw [lbN_of hj]; exact (hL.2 j hs.1).2.1.2
  have picks : ∀ (line : Nat) (V : List Us) (d : Nat) (wo : Int32) (ls : List Nm) (pf : Nat) (U1 : List Us) M1, U = U1 ++ (usP line pf ls ++ V) → Wr w q0 np0 nh0 M0 M1 → np0 ≤ pf → pf + ls.length ≤ mL M0 74 w →
      (∀ M2, (∀ q h, Wr w q pf h M1 M2) → (∀ j, j < ls.length → mI M2 74 w (pf + j) = Int32.ofNat (lbN LS (ls.getD j []))) → w_Reader_endMethod_L157 0 Q X d (Int32.ofNat n) wo (Int32.ofNat (U1.length + ls.length)) M2) → w_Reader_endMethod_L157 0 Q X (d + ls.length) (Int32.ofNat n) wo (Int32.ofNat U1.length) M1 := by
    intro line V d wo ls
    induction ls with
    | nil => intro pf U1 M1 hU1 hW h1 h2 hc; exact hc M1 (fun q h => Wr.rf _ _ _ _ _) (fun j hj => absurd hj (Nat.not_lt_zero j))
    | cons a l ih =>
      intro pf U1 M1 hU1 hW h1 h2 hc
      rw [List.length_cons] at h2
      have hU2 : U = (U1 ++ [(a, 1, pf, line)]) ++ (usP line (pf + 1) l ++ V) := by rw [hU1, List.append_assoc]; rfl
      have hk : U1.length < U.length := by rw [hU2, List.length_append, List.length_append]; simp; omega
      have hg : gu U U1.length = (a, 1, pf, line) := by rw [hU1, gu_app2 (Nat.le_refl _), Nat.sub_self]; rfl
      have hW' : Wr w q0 np0 nh0 M0 (sI M1 74 w pf (Int32.ofNat (lbN LS a))) := hW.s74 h1
      show w_Reader_endMethod_L157 0 Q X (d + l.length + 1) _ _ _ _
      refine one (d + l.length) U1.length wo M1 a 1 pf line hk hW hg (by omega) (by omega) (Or.inr (Or.inl ⟨rfl, by omega, nxt _ _ _ _ _ hk hW' (by rw [hg]; dsimp only; decide) (by rw [hg]; dsimp only; decide) ?_⟩))
      have hlen : (U1 ++ [(a, 1, pf, line)]).length = U1.length + 1 := by simp
      rw [← hlen]
      refine ih (pf + 1) (U1 ++ [(a, 1, pf, line)]) _ hU2 hW' (by omega) (by omega) (fun M2 hW2 ht => ?_)
      have := hc M2 (fun q h => ((Wr.rf w q pf h M1).s74 (Nat.le_refl _)).trans (hW2 q h) (Nat.le_refl _) (by omega) (Nat.le_refl _)) (fun j hj => ?_)
      · rw [hlen, show U1.length + 1 + l.length = U1.length + (a :: l).length by simp; omega]; exact this
      · cases j with
        | zero =>
          rw [(hW2 0 0).1 74 w _ (fun z => absurd z.1 (by decide)) (fun z => by omega) (fun z => absurd z.1 (by decide)), mI_sI, if_pos ⟨rfl, rfl, rfl⟩]; rfl
        | succ j =>
          have := ht j (by simp at hj; omega)
          rw [show pf + 1 + j = pf + (j + 1) by omega] at this
          exact this
  have main : ∀ (E : List (PI ⊕ PH)) (q pf h : Nat) (U1 : List Us) (wl : List Nat) (d : Nat) M1, U = U1 ++ usE q pf h E → Wr w q0 np0 nh0 M0 M1 → q0 ≤ q → np0 ≤ pf → nh0 ≤ h → (∀ j, j < (lfE E).length → mI M0 66 w (q + j) = Int32.ofNat (gpi (lfE E) j).1) → (∀ i ∈ lfE E, lbOk i.1 i.2.1.2.2.1) → (∀ x ∈ rgE E, x.2.2.2.2 ≤ 100000) → q + (lfE E).length ≤ mL M0 67 w → pf + pkS (lfE E) ≤ mL M0 74 w → 4 * (h + (rgE E).length) ≤ mL M0 75 w → (∀ x ∈ wl, x ≤ 100000) →
      (∀ M2, Wr w q pf h M1 M2 → tgE LS w q pf h E M2 → w_Reader_endMethod_L157 0 Q X (d + 1) (Int32.ofNat n) (wv (minL (wl ++ l10 LS (rgE E)))) (Int32.ofNat U.length) M2) → w_Reader_endMethod_L157 0 Q X (d + 1 + (usE q pf h E).length) (Int32.ofNat n) (wv (minL wl)) (Int32.ofNat U1.length) M1 := by
    intro E
    induction E with
    | nil =>
      intro q pf h U1 wl d M1 hU1 hW _ _ _ _ _ _ _ _ _ _ hc
      have := hc M1 (Wr.rf _ _ _ _ _) trivial
      have e1 : wl ++ l10 LS (rgE []) = wl := List.append_nil _
      have e2 : U = U1 := by rw [hU1]; exact List.append_nil _
      rw [e1, e2] at this; exact this
    | cons y E ih =>
      intro q pf h U1 wl d M1 hU1 hW g1 g2 g3 g66 glb' gln s7 s4 s5 hwl hc
      cases y with
      | inl i =>
        have hlf : lfE (Sum.inl i :: E) = i :: lfE E := rfl
        have hrg : rgE (Sum.inl i :: E) = rgE E := rfl
        rw [hlf] at g66 glb' s7 s4
        rw [hrg] at gln s5 hc
        have hpk : pkS (i :: lfE E) = pkN i + pkS (lfE E) := by simp [pkS]
        rw [hpk] at s4
        rw [List.length_cons] at s7
        have hus : usE q pf h (Sum.inl i :: E) = newU i.1 q pf i.2.2.2 i.2.1.2.2.1 ++ usE (q + 1) (pf + pkN i) h E := rfl
        rw [hus] at hU1 ⊢
        have h66i : mI M0 66 w q = Int32.ofNat i.1 := g66 0 (by simp)
        have g66' : ∀ j, j < (lfE E).length → mI M0 66 w (q + 1 + j) = Int32.ofNat (gpi (lfE E) j).1 := fun j hj => by
          have := g66 (j + 1) (by simp; omega)
          rw [show q + (j + 1) = q + 1 + j by omega] at this
          exact this
        have lbi := glb' i List.mem_cons_self
        have glb2 : ∀ i ∈ lfE E, lbOk i.1 i.2.1.2.2.1 := fun j hj => glb' j (List.mem_cons_of_mem _ hj)
        have h66M1 : mI M1 66 w q = Int32.ofNat i.1 := by rw [hW.o (by decide)]; exact h66i
        by_cases cj : isJ i.1
        · have hn40 : i.1 ≠ 40 := fun q' => by have : i.1 ≤ 39 := cj.2; omega
          have hpk0 : pkN i = 0 := by unfold pkN; rw [if_neg hn40]
          have hlen1 := lbi.1 cj
          obtain ⟨nm, hnm⟩ : ∃ nm, i.2.1.2.2.1 = [nm] := by
            cases hls : i.2.1.2.2.1 with
            | nil => rw [hls] at hlen1; cases hlen1
            | cons a l =>
              rw [hls] at hlen1
              cases l with
              | nil => exact ⟨a, rfl⟩
              | cons b l => simp at hlen1
          have hnew : newU i.1 q pf i.2.2.2 i.2.1.2.2.1 = [(nm, 0, q, i.2.2.2)] := by unfold newU; rw [if_pos cj, hnm]; rfl
          rw [hnew] at hU1 ⊢
          have hU2 : U = (U1 ++ [(nm, 0, q, i.2.2.2)]) ++ usE (q + 1) (pf + pkN i) h E := by rw [hU1, List.append_assoc]
          have hk : U1.length < U.length := by rw [hU2, List.length_append, List.length_append]; simp; omega
          have hg : gu U U1.length = (nm, 0, q, i.2.2.2) := by rw [hU1, gu_app2 (Nat.le_refl _), Nat.sub_self]; rfl
          have hW' : Wr w q0 np0 nh0 M0 (sI M1 67 w q (Int32.ofNat (lbN LS nm))) := hW.s67 g1 cj h66i
          have hlen : (U1 ++ [(nm, 0, q, i.2.2.2)]).length = U1.length + 1 := by simp
          show w_Reader_endMethod_L157 0 Q X (d + 1 + ((usE (q + 1) (pf + pkN i) h E).length + 1)) _ _ _ _
          rw [← Nat.add_assoc]
          refine one (d + 1 + (usE (q + 1) (pf + pkN i) h E).length) U1.length _ M1 nm 0 q i.2.2.2 hk hW hg (by omega) (by omega) (Or.inl ⟨rfl, by omega, nxt _ _ _ _ _ hk hW' (by rw [hg]; dsimp only; decide) (by rw [hg]; dsimp only; decide) ?_⟩)
          rw [← hlen]
          refine ih (q + 1) (pf + pkN i) h (U1 ++ [(nm, 0, q, i.2.2.2)]) wl d _ hU2 hW' (by omega) (by omega) g3 g66' glb2 gln (by omega) (by omega) s5 hwl (fun M2 hW2 ht => ?_)
          refine hc M2 (((Wr.rf w q pf h M1).s67 (Nat.le_refl _) cj h66M1).trans hW2 (by omega) (by omega) (Nat.le_refl _)) ⟨tgI.wr ⟨fun _ => ?_, fun q' => absurd q' hn40⟩ hW2, ht⟩
          rw [mI_sI, if_pos ⟨rfl, rfl, rfl⟩, hnm]; rfl
        · by_cases c40 : i.1 = 40
          · have hpk1 : pkN i = i.2.1.2.2.1.length := by unfold pkN; rw [if_pos c40]
            have hnew : newU i.1 q pf i.2.2.2 i.2.1.2.2.1 = usP i.2.2.2 pf i.2.1.2.2.1 := by unfold newU; rw [if_neg cj, if_pos c40]
            rw [hnew] at hU1 ⊢
            have hfu : d + 1 + (usP i.2.2.2 pf i.2.1.2.2.1 ++ usE (q + 1) (pf + pkN i) h E).length = d + 1 + (usE (q + 1) (pf + pkN i) h E).length + i.2.1.2.2.1.length := by
              rw [List.length_append, usP_len]; omega
            rw [hfu]
            refine picks i.2.2.2 (usE (q + 1) (pf + pkN i) h E) _ _ i.2.1.2.2.1 pf U1 M1 hU1 hW g2 (by omega) (fun M2 hW2 ht2 => ?_)
            have hW' : Wr w q0 np0 nh0 M0 M2 := hW.trans (hW2 q0 nh0) (Nat.le_refl _) g2 (Nat.le_refl _)
            have hlen : (U1 ++ usP i.2.2.2 pf i.2.1.2.2.1).length = U1.length + i.2.1.2.2.1.length := by rw [List.length_append, usP_len]
            rw [← hlen]
            refine ih (q + 1) (pf + pkN i) h (U1 ++ usP i.2.2.2 pf i.2.1.2.2.1) wl d M2 (by rw [hU1, List.append_assoc]) hW' (by omega) (by omega) g3 g66' glb2 gln (by omega) (by omega) s5 hwl (fun M3 hW3 ht => ?_)
            exact hc M3 ((hW2 q h).trans hW3 (by omega) (by omega) (Nat.le_refl _)) ⟨tgI.wr ⟨fun q' => absurd q' cj, fun _ j hj => ht2 j hj⟩ hW3, ht⟩
          · have hpk0 : pkN i = 0 := by unfold pkN; rw [if_neg c40]
            have hnew : newU i.1 q pf i.2.2.2 i.2.1.2.2.1 = [] := by unfold newU; rw [if_neg cj, if_neg c40]
            rw [hnew] at hU1 ⊢
            rw [List.nil_append] at hU1 ⊢
            refine ih (q + 1) (pf + pkN i) h U1 wl d M1 hU1 hW (by omega) (by omega) g3 g66' glb2 gln (by omega) (by omega) s5 hwl (fun M2 hW2 ht => ?_)
            exact hc M2 ((Wr.rf w q pf h M1).trans hW2 (by omega) (by omega) (Nat.le_refl _)) ⟨⟨fun q' => absurd q' cj, fun q' => absurd q' c40⟩, ht⟩
      | inr x =>
        have hlf : lfE (Sum.inr x :: E) = lfE E := rfl
        have hrg : rgE (Sum.inr x :: E) = x :: rgE E := rfl
        rw [hlf] at g66 glb' s7 s4
        rw [hrg] at gln s5 hc
        rw [List.length_cons] at s5
        have hx := gln x List.mem_cons_self
        have gln2 : ∀ x ∈ rgE E, x.2.2.2.2 ≤ 100000 := fun y hy => gln y (List.mem_cons_of_mem _ hy)
        have hl10 : wl ++ l10 LS (x :: rgE E) = (wl ++ (if lbN LS x.2.1 ≤ lbN LS x.1 then [x.2.2.2.2] else [])) ++ l10 LS (rgE E) := by
          rw [List.append_assoc]; rfl
        rw [hl10] at hc
        have hU2 : U = (((U1 ++ [(x.1, 2, 4 * h, x.2.2.2.2)]) ++ [(x.2.1, 3, 4 * h + 1, x.2.2.2.2)]) ++ [(x.2.2.1, 4, 4 * h + 2, x.2.2.2.2)]) ++ usE q pf (h + 1) E := by
          rw [hU1, List.append_assoc, List.append_assoc, List.append_assoc]; rfl
        have hUl : U.length = U1.length + 3 + (usE q pf (h + 1) E).length := by
          rw [hU2, List.length_append]; simp
        have hg0 : gu U U1.length = (x.1, 2, 4 * h, x.2.2.2.2) := by rw [hU1, gu_app2 (Nat.le_refl _), Nat.sub_self]; rfl
        have hg1 : gu U (U1.length + 1) = (x.2.1, 3, 4 * h + 1, x.2.2.2.2) := by rw [hU1, gu_app2 (by omega), show U1.length + 1 - U1.length = 1 by omega]; rfl
        have hg2 : gu U (U1.length + 2) = (x.2.2.1, 4, 4 * h + 2, x.2.2.2.2) := by rw [hU1, gu_app2 (by omega), show U1.length + 2 - U1.length = 2 by omega]; rfl
        have k0 : U1.length < U.length := by omega
        have k1 : U1.length + 1 < U.length := by omega
        have k2 : U1.length + 2 < U.length := by omega
        have f0 : ∃ j, lbI LS x.1 = some j := by have := hfd _ (gu_mem k0); rw [hg0] at this; exact this
        have f1 : ∃ j, lbI LS x.2.1 = some j := by have := hfd _ (gu_mem k1); rw [hg1] at this; exact this
        have w0 : Wr w q0 np0 nh0 M0 (sI M1 75 w (4 * h) (Int32.ofNat (lbN LS x.1))) := hW.s75 (by omega) (by omega)
        have w1 : Wr w q0 np0 nh0 M0 (sI (sI M1 75 w (4 * h) (Int32.ofNat (lbN LS x.1))) 75 w (4 * h + 1) (Int32.ofNat (lbN LS x.2.1))) := w0.s75 (by omega) (by omega)
        have w2 : Wr w q0 np0 nh0 M0 (sI (sI (sI M1 75 w (4 * h) (Int32.ofNat (lbN LS x.1))) 75 w (4 * h + 1) (Int32.ofNat (lbN LS x.2.1))) 75 w (4 * h + 2) (Int32.ofNat (lbN LS x.2.2.1))) := w1.s75 (by omega) (by omega)
        show w_Reader_endMethod_L157 0 Q X (d + 1 + (usE q pf (h + 1) E).length + 2 + 1) _ _ _ _
        refine one (d + 1 + (usE q pf (h + 1) E).length + 2) U1.length _ M1 x.1 2 (4 * h) x.2.2.2.2 k0 hW hg0 (by omega) (by omega) (Or.inr (Or.inr ⟨by omega, by omega, nxt _ _ _ _ _ k0 w0 (by rw [hg0]; dsimp only; decide) (by rw [hg0]; dsimp only; decide) ?_⟩))
        refine one (d + 1 + (usE q pf (h + 1) E).length + 1) (U1.length + 1) _ _ x.2.1 3 (4 * h + 1) x.2.2.2.2 k1 w0 hg1 (by omega) (by omega) (Or.inr (Or.inr ⟨by omega, by omega, cmp _ _ _ _ (lbN LS x.1) (4 * h + 1) x.2.2.2.2 x.2.1 _ k1 w1 hg1 (by omega) (by omega) ?_ (lb80 _ f0) (lb80 _ f1) hx hwl ?_⟩))
        · rw [mI_sI, if_neg (fun z => by omega), mI_sI, if_pos ⟨rfl, rfl, by omega⟩]
        · refine one (d + 1 + (usE q pf (h + 1) E).length) (U1.length + 2) _ _ x.2.2.1 4 (4 * h + 2) x.2.2.2.2 k2 w1 hg2 (by omega) (by omega) (Or.inr (Or.inr ⟨by omega, by omega, nxt _ _ _ _ _ k2 w2 (by rw [hg2]; dsimp only; decide) (by rw [hg2]; dsimp only; decide) ?_⟩))
          have hlen : (((U1 ++ [(x.1, 2, 4 * h, x.2.2.2.2)]) ++ [(x.2.1, 3, 4 * h + 1, x.2.2.2.2)]) ++ [(x.2.2.1, 4, 4 * h + 2, x.2.2.2.2)]).length = U1.length + 2 + 1 := by simp
          rw [← hlen]
          refine ih q pf (h + 1) _ _ d _ hU2 w2 g1 g2 (by omega) g66 glb' gln2 s7 s4 (by omega) (fun z hz => ?_) (fun M2 hW2 ht => ?_)
          · rcases List.mem_append.mp hz with z1 | z1
            · exact hwl z z1
            · split at z1
              · simp at z1; omega
              · cases z1
          · refine hc M2 (((((Wr.rf w q pf h M1).s75 (Nat.le_refl _) (by omega)).s75 (by omega) (by omega)).s75 (by omega) (by omega)).trans hW2 (Nat.le_refl _) (Nat.le_refl _) (by omega)) ⟨tgH.wr ⟨?_, ?_, ?_⟩ hW2, ht⟩
            · rw [mI_sI, if_neg (fun z => by omega), mI_sI, if_neg (fun z => by omega), mI_sI, if_pos ⟨rfl, rfl, rfl⟩]
            · rw [mI_sI, if_neg (fun z => by omega), mI_sI, if_pos ⟨rfl, rfl, rfl⟩]
            · rw [mI_sI, if_pos ⟨rfl, rfl, rfl⟩]
  have := main E0 q0 np0 nh0 [] [] 0 M0 (by rw [List.nil_append]; exact hUE) (Wr.rf _ _ _ _ _) (Nat.le_refl _) (Nat.le_refl _) (Nat.le_refl _) h66 hlb hln r7 r4 r5 (fun x hx => by cases hx) (fun M2 a b => hQ 0 M2 a b)
  exact ⟨_, this⟩
