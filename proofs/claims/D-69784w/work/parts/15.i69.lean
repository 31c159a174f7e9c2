/-! THE OPERATION differ, works -/
def lkf (x : Mth) (L : List Mth) : Option Mth := L.find? (fun y => decide (lkM x y))
noncomputable def dif3 (L : List Mth) (x : Mth) : Bool := match lkf x L with
  | none => false
  | some y => !eqQ x y
noncomputable def difO (C D : Cls) (a : Int32) : Int32 :=
  if a = 0 then (if C.2.2.2.1 = D.2.2.2.1 ∧ C.2.1 = D.2.1 ∧ C.2.2.1 = D.2.2.1 then 0 else 1)
  else if a = 1 then Int32.ofNat (C.2.2.2.2.1.countP (fun f => decide (f ∉ D.2.2.2.2.1)))
  else if a = 2 then Int32.ofNat (C.2.2.2.2.2.countP (fun x => (lkf x D.2.2.2.2.2).isNone))
  else Int32.ofNat (C.2.2.2.2.2.countP (dif3 D.2.2.2.2.2))
noncomputable def dfrO (W V : List Cls) (c d a : Int32) : Int32 := if c < 0 ∨ Int32.ofNat W.length ≤ c then -1 else if d < 0 ∨ Int32.ofNat V.length ≤ d then -1 else if a < 0 ∨ 3 < a then -1 else difO (gc W c.toNatClampNeg) (gc V d.toNatClampNeg) a
theorem lkf_some {x : Mth} {D : Cls} {p : Nat} (hp : p < D.2.2.2.2.2.length) (h : lkM x (gmt D p)) (hb : ∀ p', p' < p → ¬ lkM x (gmt D p')) : lkf x D.2.2.2.2.2 = some (gmt D p) := by
  unfold lkf
  have eg : ∀ i (hi : i < D.2.2.2.2.2.length), gmt D i = D.2.2.2.2.2[i] := fun i hi => by
    show D.2.2.2.2.2.getD i _ = _
    rw [List.getD_eq_getElem?_getD, List.getElem?_eq_getElem hi]; rfl
  rw [List.find?_eq_some_iff_getElem]
  refine ⟨decide_eq_true h, p, hp, (eg p hp).symm, fun j hj => ?_⟩
  have := hb j hj
  rw [eg j (by omega)] at this
  rw [decide_eq_false this]; rfl
theorem lkf_none {x : Mth} {D : Cls} (h : ∀ p, p < D.2.2.2.2.2.length → ¬ lkM x (gmt D p)) : lkf x D.2.2.2.2.2 = none := by
  unfold lkf
  rw [List.find?_eq_none]
  intro y hy
  obtain ⟨i, hi, e⟩ := List.mem_iff_getElem.1 hy
  have := h i hi
  rw [show gmt D i = y by show D.2.2.2.2.2.getD i _ = _; rw [List.getD_eq_getElem?_getD, List.getElem?_eq_getElem hi, e]; rfl] at this
  intro z
  exact this (of_decide_eq_true z)
theorem lk_eq {x y : Mth} (h : lkM x y) : (x.2.2.2 = y.2.2.2) ↔ x = y := ⟨fun e => Prod.ext h.1 (Prod.ext h.2.2 (Prod.ext h.2.1 e)), fun e => by rw [e]⟩
theorem cnt_leQ {α : Type} {p : α → Bool} {l : List α} {k : Nat} : (l.take k).countP p ≤ k := Nat.le_trans (List.countP_le_length ..) (by rw [List.length_take]; omega)
theorem cnt_k {α : Type} {p : α → Bool} {l : List α} {k : Nat} {d : α} (h : k < l.length) : (l.take (k + 1)).countP p = (l.take k).countP p + (if p (l.getD k d) = true then 1 else 0) := by
  rw [take_s (d := d) h, List.countP_append]
  rw [List.countP_singleton]
section
variable {A : List Nm} {W V : List Cls} {w w' c d k k' : Nat} {br br' : Int32} {nq nk np nh nr nq' nk' np' nh' nr' C C' B B' F F' : Nat} {x y : Mth} {M : Mem} {Q : Int32 → Mem → Prop} {on : Nat → Bool} {s s' : Ms} {a ca da : Int32}
/-- a method of a world, as looking at it asks -/
theorem CWx.al (h : CWx A W w br nq nk np nh nr M) (hK : KB w nq nk np nh nr) (hc : c < W.length) (hk : k < (gc W c).2.2.2.2.2.length) (hx : (co (gmt (gc W c) k) = [] ∧ hs (gmt (gc W c) k) = []) ∨ (nfM (gmt (gc W c) k) ∧ wfM (gmt (gc W c) k))) : ∃ q0 h0, AlM A w nq nk np nh nr (moff W c + k) q0 h0 (gmt (gc W c) k) M := by
  obtain ⟨-, -, hmo, -, -⟩ := h.mo (e := 0) hc
  obtain ⟨⟨-, lf, -⟩, -, hms⟩ := h.2.1
  obtain ⟨hH, q0, h0, ⟨e62, e63, b1, b2', e64, e65, b3, b4⟩, hI, hF⟩ := hms c hc k hk
  obtain ⟨k1, k2, k3, k4, k5, k6⟩ := hK
  have hR := h.2.2.2.1
  have z1 := L_le w
  have b3' : h0 + (hs (gmt (gc W c) k)).length ≤ nh := b3
  refine ⟨q0, h0, ⟨⟨hH.2.2.1, hH.2.2.2.2.2.1, hH.2.2.2.2.2.2⟩, e62, e63, e64, e65⟩, ⟨lf, by omega, hR, by omega, by omega, b2', b4⟩, fun i hi => ?_, hF, fun i hi => ?_, fun i hi => ?_⟩
  · rcases hx with ⟨e, -⟩ | ⟨n1, -⟩
    · rw [e] at hi; exact absurd hi (by simp)
    · exact ⟨hI i hi, hR, ⟨by show q0 + i < nq; have : i < (gmt (gc W c) k).2.2.2.2.2.2.1.length := hi; omega, k1, k2, k3, k5, k6⟩, n1.2.1 _ (getD_mem hi)⟩
  · rcases hx with ⟨e, -⟩ | ⟨-, n2⟩
    · rw [e] at hi; exact absurd hi (by simp)
    · intro t ht
      have := wf_t n2 hi ht
      have := n2.2.2.1.1
      omega
  · rcases hx with ⟨-, e⟩ | ⟨-, n2⟩
    · rw [e] at hi; exact absurd hi (by simp)
    · obtain ⟨w1, w2, w3, -⟩ := n2.2.2.2.1.2 (ghn (hs (gmt (gc W c) k)) i) (getD_mem hi)
      have := n2.2.2.1.1
      exact ⟨by omega, by omega, by omega⟩
theorem c_df254 (hA : A.length ≤ 200000) (hW : CWx A W w br nq nk np nh nr M) (hV : CWx A V w' br' nq' nk' np' nh' nr' M) (hK : KB w nq nk np nh nr) (hK' : KB w' nq' nk' np' nh' nr') (hc : c < W.length) (hd : d < V.length) (hx : ∀ k, k < (gc W c).2.2.2.2.2.length → (co (gmt (gc W c) k) = [] ∧ hs (gmt (gc W c) k) = []) ∨ (nfM (gmt (gc W c) k) ∧ wfM (gmt (gc W c) k))) (hy : ∀ k, k < (gc V d).2.2.2.2.2.length → (co (gmt (gc V d) k) = [] ∧ hs (gmt (gc V d) k) = []) ∨ (nfM (gmt (gc V d) k) ∧ wfM (gmt (gc V d) k))) (ha : a = 2 ∨ a = 3) (hQ : Q (difO (gc W c) (gc V d) a) M) : ∀ n k, k ≤ (gc W c).2.2.2.2.2.length → (gc W c).2.2.2.2.2.length - k < n → w_Works_differ_L254 0 Q n (Int32.ofNat c) (Int32.ofNat d) a w w' (Int32.ofNat (((gc W c).2.2.2.2.2.take k).countP (if a = 2 then (fun x => (lkf x (gc V d).2.2.2.2.2).isNone) else dif3 (gc V d).2.2.2.2.2))) (Int32.ofNat k) M
  | 0, k, hk, hn => absurd hn (by omega)
  | n + 1, k, hk, hn => by
    obtain ⟨e43, e44, hmo, h12, h51⟩ := hW.mo (e := 0) hc
    obtain ⟨⟨⟨l43, l44⟩, lf, l211⟩, -, hms⟩ := hW.2.1
    have vc : ∀ {g : Nat}, g = 51 → vp_in (Int32.ofNat c) g := fun e => by rw [e]; exact (vp_oN (by omega)).mpr (by omega)
    unfold w_Works_differ_L254
    refine ⟨vc l44, ?_⟩
    rw [oN_tnc (k := c) (by omega), e44, e43]
    by_cases ek : k = (gc W c).2.2.2.2.2.length
    · refine itp (by rw [ek]; exact le_oN (Nat.le_refl _) (by omega)) ?_
      rw [ek, List.take_length]
      unfold difO at hQ
      rcases ha with e | e
      · rw [e, if_neg (by decide), if_neg (by decide), if_pos rfl] at hQ
        rw [e, if_pos rfl]; exact hQ
      · rw [e, if_neg (by decide), if_neg (by decide), if_neg (by decide)] at hQ
        rw [e, if_neg (by decide)]; exact hQ
    have hkl : k < (gc W c).2.2.2.2.2.length := by omega
    have hcl := cnt_leQ (p := if a = 2 then (fun x => (lkf x (gc V d).2.2.2.2.2).isNone) else dif3 (gc V d).2.2.2.2.2) (l := (gc W c).2.2.2.2.2) (k := k)
    have hck := cnt_k (p := if a = 2 then (fun x => (lkf x (gc V d).2.2.2.2.2).isNone) else dif3 (gc V d).2.2.2.2.2) (d := ([], [], (0, []), 0, 0, 0, [], [])) hkl
    have hck : (((gc W c).2.2.2.2.2.take (k + 1)).countP (if a = 2 then (fun x => (lkf x (gc V d).2.2.2.2.2).isNone) else dif3 (gc V d).2.2.2.2.2)) = ((gc W c).2.2.2.2.2.take k).countP (if a = 2 then (fun x => (lkf x (gc V d).2.2.2.2.2).isNone) else dif3 (gc V d).2.2.2.2.2) + (if (if a = 2 then (fun x => (lkf x (gc V d).2.2.2.2.2).isNone) else dif3 (gc V d).2.2.2.2.2) (gmt (gc W c) k) = true then 1 else 0) := hck
    have ih := c_df254 hA hW hV hK hK' hc hd hx hy ha hQ n (k + 1) (by omega) (by omega)
    rw [hck] at ih
    generalize ((gc W c).2.2.2.2.2.take k).countP (if a = 2 then (fun x => (lkf x (gc V d).2.2.2.2.2).isNone) else dif3 (gc V d).2.2.2.2.2) = N at ih hcl ⊢
    have add : ∀ (e : Nat), (if (if a = 2 then (fun x => (lkf x (gc V d).2.2.2.2.2).isNone) else dif3 (gc V d).2.2.2.2.2) (gmt (gc W c) k) = true then 1 else 0) = e → w_Works_differ_j346 0 Q (w_Works_differ_L254 0 Q n) (Int32.ofNat c) (Int32.ofNat d) a w w' (Int32.ofNat N + Int32.ofNat e) (Int32.ofNat k) M := fun e he => by
      unfold w_Works_differ_j346
      rw [lit32 1, oN_add, oN_add, ← he]; exact ih
    refine itn (nle_oN (by omega) (by omega)) ⟨vc l43, ?_⟩
    rw [oN_add]
    obtain ⟨hH, -⟩ := hms c hc k hkl
    refine c_likeMethod hA hW hV hH (by omega) hd (fun p hp hl hb => ?_) (fun hno => ?_)
    · have el := lkf_some hp hl hb
      obtain ⟨-, -, hmo', -, -⟩ := hV.mo (e := 0) hd
      rcases ha with e | e
      · refine itp e (itp (oN_zero_le (by omega)) ?_)
        unfold w_Works_differ_j310
        refine add 0 ?_
        rw [if_pos e]
        show (if (lkf (gmt (gc W c) k) (gc V d).2.2.2.2.2).isNone = true then 1 else 0) = 0
        rw [el]; rfl
      · refine itn (by rw [e]; decide) (itn (nlt_oN (b := 0) (by omega) (by omega)) ?_)
        obtain ⟨q0, h0, a1⟩ := hW.al hK hc hkl (hx k hkl)
        obtain ⟨q0', h0', a2⟩ := hV.al hK' hd hp (hy p hp)
        refine c_writtenAlike hA a1 a2 ?_
        have e3 : (if a = 2 then (fun x => (lkf x (gc V d).2.2.2.2.2).isNone) else dif3 (gc V d).2.2.2.2.2) (gmt (gc W c) k) = !eqQ (gmt (gc W c) k) (gmt (gc V d) p) := by
          rw [if_neg (by rw [e]; decide)]
          unfold dif3
          rw [el]
        by_cases z : (gmt (gc W c) k).2.2.2 = (gmt (gc V d) p).2.2.2
        · rw [eqQ_t z]
          refine itn (by decide) ?_
          unfold w_Works_differ_j342 w_Works_differ_j343
          refine add 0 ?_
          rw [e3, eqQ_t ((lk_eq hl).1 z)]; rfl
        · rw [eqQ_f z]
          refine itp rfl ?_
          unfold w_Works_differ_j343
          refine add 1 ?_
          rw [e3, eqQ_f (fun y => z ((lk_eq hl).2 y))]; rfl
    · have el := lkf_none hno
      rcases ha with e | e
      · refine itp e (itn (by decide) ?_)
        unfold w_Works_differ_j310
        refine add 1 ?_
        rw [if_pos e]
        show (if (lkf (gmt (gc W c) k) (gc V d).2.2.2.2.2).isNone = true then 1 else 0) = 1
        rw [el]; rfl
      · refine itn (by rw [e]; decide) (itp (by decide) ?_)
        unfold w_Works_differ_j342 w_Works_differ_j343
        have e4 : (if a = 2 then (fun x => (lkf x (gc V d).2.2.2.2.2).isNone) else dif3 (gc V d).2.2.2.2.2) (gmt (gc W c) k) = false := by
          rw [if_neg (by rw [e]; decide)]
          unfold dif3
          rw [el]
        refine add 0 ?_
        rw [e4]; rfl
end
