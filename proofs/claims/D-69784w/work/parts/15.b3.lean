theorem ct_wholeSignature {G : List Sl} {A : List Nm} {S : List Sg} {L ts : List Tok} {Q : Int32 → Mem → Prop} {X : Mem → Prop} {M : Mem} (hG : Ga G) (hGs : Gs5 G) (hs : sTr ∈ G) (hz : lz L) (hTG : TG G M) (h : TQ A L ts M) (hne : ts ≠ []) (hrow : (6 ≤ rl M sTr ∧ rl M sTr ≤ 20000)) (hU : TU A S M) (hlen : S.length < 100000) (hoff : off S S.length ≤ 900000) (hLl : L.length ≤ 5000)
    (hQ : ∀ ks κ t2 M', pSig ts = .inr ((ks, κ), t2) → (∀ κ ∈ ks, kok A κ) → kok A κ → TQ A L t2 M' → TU A (ins S (sg A ks κ)) M' → GF G X6 M M' → (6 ≤ rl M' sTr ∧ rl M' sTr ≤ 20000) → Q (Int32.ofNat (S.idxOf (sg A ks κ))) M')
    (hX : ∀ e M', pSig ts = .inl e → ThT e M' → TU A S M' → GF G X6 M M' → (6 ≤ rl M' sTr ∧ rl M' sTr ≤ 20000) → X M') : w_Model_wholeSignature 0 Q X M := by
  -- what is needed of a state between types
  have tlen : ∀ {t : List Tok} {M1 : Mem}, TQ A L t M1 → t.length ≤ 5000 := fun {t M1} q => by
    obtain ⟨-, k, -, e, -⟩ := q
    rw [e, List.length_drop]; omega
  have stU : ∀ {M1 M2 : Mem} {F : Nat}, Fr F M1 M2 → GF G [sTr] M1 M2 → TU A S M1 → F.testBit (cd 11 4) = false → F.testBit 105 = false → F.testBit (5000 + 105) = false → F.testBit (cd 11 36) = false → F.testBit (cd 11 37) = false → F.testBit 106 = false → F.testBit (5000 + 106) = false → TU A S M2 := fun hf hg hu b1 b2 b3 b4 b5 b6 b7 =>
    ⟨hu.1.gf hf hg hG.2.1 ⟨by decide, by decide, by decide⟩ b1 b2 b3, hu.2.gf hf hg hGs (by simp) b4 b5 b6 b7⟩
  -- the end, as pTypesF has it
  have tail : ∀ d ks t M1, t.length < d + 1 → TQ A L t M1 → t ≠ [] → TR A ks M1 → ks.length ≤ 6000 → TU A S M1 → GF G X6 M M1 →
      (∀ ks' κ t2 M', pTypesF false (d + 1) ks t = .inr (ks', t2) → (∀ κ ∈ ks', kok A κ) → ∀ t3, pRes t2 = .inr (κ, t3) → kok A κ → TQ A L t3 M' → TU A (ins S (sg A ks' κ)) M' → GF G X6 M M' → (6 ≤ rl M' sTr ∧ rl M' sTr ≤ 20000) → Q (Int32.ofNat (S.idxOf (sg A ks' κ))) M') →
      (∀ e M', (pTypesF false (d + 1) ks t = .inl e ∨ ∃ ks' t2, pTypesF false (d + 1) ks t = .inr (ks', t2) ∧ pRes t2 = .inl e) → ThT e M' → TU A S M' → GF G X6 M M' → (6 ≤ rl M' sTr ∧ rl M' sTr ≤ 20000) → X M') →
      ((hd t).1 ≠ 41 → pTypesF false (d + 1) ks t = .inl (er t)) → w_Model_wholeSignature_j60 0 Q X M1 := by
    intro d ks t M1 hlt hq hne hR hl hu hF hQ hX hbad
    refine ct_sigTail (ks := ks) hG hGs hs hz hF hq hne hR hl hu hlen hoff (fun κ t2 M' c a b e f g hb => ?_) (fun M' c a b e hb => ?_) (fun e M' c a b f g hb => ?_)
    · refine hQ ks κ t.tail M' ?_ hR.2.2.2.1 t2 a b e f g hb
      unfold pTypesF; rw [if_pos c]
    · exact hX _ M' (Or.inl (hbad c)) a b e hb
    · exact hX e M' (Or.inr ⟨ks, t.tail, by unfold pTypesF; rw [if_pos c], a⟩) b f g hb
  -- one type, and those behind it
  have one : ∀ d ks t M1, TQ A L t M1 → t ≠ [] → TR A ks M1 → ks.length ≤ 5990 → TU A S M1 → GF G X6 M M1 →
      (∀ κ t2 M2, pType t = .inr (κ, t2) → TQ A L t2 M2 → t2 ≠ [] → TR A (ks ++ [κ]) M2 → TU A S M2 → GF G X6 M M2 → w_Model_wholeSignature_L29 0 Q X d M2) →
      (∀ e M', pType t = .inl e → ThT e M' → TU A S M' → GF G X6 M M' → (6 ≤ rl M' sTr ∧ rl M' sTr ≤ 20000) → X M') → w_Model_addType 0 (fun M' => w_Model_wholeSignature_L29 0 Q X d M') X M1 := by
    intro d ks t M1 hq hne hR hl hu hF hnext hX
    refine mf_w_Model_addType (Q := fun M' => ∃ κ t2, pType t = .inr (κ, t2) ∧ TQ A L t2 M' ∧ TR A (ks ++ [κ]) M' ∧ GF G [sTr] M1 M') (X := fun M' => ∃ e, pType t = .inl e ∧ ThT e M' ∧ GF G [sTr] M1 M' ∧ (6 ≤ rl M' sTr ∧ rl M' sTr ≤ 20000)) (fun M2 hf hp => ?_) (fun M2 hf hp => ?_) (ct_addType hG hs hF.1 hq hne hR (by omega) (fun κ t2 M' a b c e => ⟨κ, t2, a, b, c, e⟩) (fun e M' a b c f => ⟨e, a, b, c, f⟩))
    · obtain ⟨κ, t2, a, b, c, e⟩ := hp
      have hne2 : t2 ≠ [] := by rw [pType_tail a]; exact tl_ne hq hz hne (by rw [pType_ne a]; decide)
      exact hnext κ t2 M2 a b hne2 c (stU hf e hu rfl rfl rfl rfl rfl rfl rfl) (hF.trans (e.sub (by simp)))
    · obtain ⟨e, a, b, c, f⟩ := hp
      exact hX e M2 a b (stU hf c hu rfl rfl rfl rfl rfl rfl rfl) (hF.trans (c.sub (by simp))) f
  have loop : ∀ d ks t M1, t.length < d → ks.length + t.length ≤ 5001 → 0 < ks.length → TQ A L t M1 → t ≠ [] → TR A ks M1 → TU A S M1 → GF G X6 M M1 →
      (∀ ks' κ t2 M', pTypesF false d ks t = .inr (ks', t2) → (∀ κ ∈ ks', kok A κ) → ∀ t3, pRes t2 = .inr (κ, t3) → kok A κ → TQ A L t3 M' → TU A (ins S (sg A ks' κ)) M' → GF G X6 M M' → (6 ≤ rl M' sTr ∧ rl M' sTr ≤ 20000) → Q (Int32.ofNat (S.idxOf (sg A ks' κ))) M') →
      (∀ e M', (pTypesF false d ks t = .inl e ∨ ∃ ks' t2, pTypesF false d ks t = .inr (ks', t2) ∧ pRes t2 = .inl e) → ThT e M' → TU A S M' → GF G X6 M M' → (6 ≤ rl M' sTr ∧ rl M' sTr ≤ 20000) → X M') → w_Model_wholeSignature_L29 0 Q X d M1 := by
    intro d
    induction d with
    | zero => intro ks t M1 h; omega
    | succ d ih =>
      intro ks t M1 hlt hlen2 hpos hq hne hR hu hF hQ hX
      unfold w_Model_wholeSignature_L29
      obtain ⟨k, k1, k2, ⟨k3, k4, k5⟩, k6, k7, -⟩ := hq.top hne
      rw [k2, k3, oN_tnc (by omega), k6.1]
      refine ⟨(vp_oN (by omega)).mpr k1, ?_⟩
      by_cases c44 : (hd t).1 = 44
      · refine itp (by rw [c44]; rfl) ?_
        rw [← k2]
        have hq2 := hq.next hne
        have hne2 : t.tail ≠ [] := tl_ne hq hz hne (by omega)
        have htl := tail_lt hne
        have hexp : pTypesF false (d + 1) ks t = match pType t.tail with
            | .inl e => .inl e
            | .inr (κ, t2) => pTypesF false d (ks ++ [κ]) t2 := by
          conv => lhs; unfold pTypesF
          rw [if_neg (by omega), if_neg (by omega)]
          unfold pSign
          rw [if_pos c44]
          show (if false = true ∧ ks.length = 6 then _ else _) = _
          rw [if_neg (fun q => by cases q.1)]
          all_goals (cases pType t.tail <;> rfl)
        rw [hexp] at hQ hX
        have e43 : ∀ f i k, f ≠ 11 → mI (sI M1 11 0 43 (mI M1 11 0 43 + 1)) f i k = mI M1 f i k := fun f i k hf => by rw [mI_sI, if_neg (fun q => hf q.1)]
        have hF2 : GF G X6 M (sI M1 11 0 43 (mI M1 11 0 43 + 1)) := hF.of (fun s hs => rfl) (fun s hs i k => e43 _ i k (by have := hG.ob s hs; omega)) (fun s hs i => rfl) rfl rfl
        have hR2 : TR A ks (sI M1 11 0 43 (mI M1 11 0 43 + 1)) := hR
        have hu2 : TU A S (sI M1 11 0 43 (mI M1 11 0 43 + 1)) := ⟨hu.1.of rfl rfl (fun _ => rfl) (fun _ => rfl) (fun _ => rfl) (fun _ => rfl) rfl rfl rfl, hu.2.of rfl rfl rfl (fun _ => rfl) (fun s hs => ⟨fun k => e43 _ _ k (by
          simp only [List.mem_cons, List.not_mem_nil, or_false] at hs
          rcases hs with e | e | e | e | e <;> (rw [e]; decide)), rfl⟩)⟩
        refine one d ks t.tail _ hq2 hne2 hR2 (by omega) hu2 hF2 (fun κ t2 M2 a b c e f g => ?_) (fun e M' a b c f g => ?_)
        · rw [a] at hQ hX
          have et := pType_tail a
          have := tail_lt hne2
          rw [← et] at this
          exact ih (ks ++ [κ]) t2 M2 (by omega) (by simp; omega) (by simp) b c e f g hQ hX
        · rw [a] at hX
          exact hX e M' (Or.inl rfl) b c f g
      · refine itn (ne_oN (b := 44) c44 (by omega) (by omega)) (tail d ks t M1 hlt hq hne hR (by omega) hu hF hQ hX (fun c => ?_))
        unfold pTypesF
        rw [if_neg c, if_neg (by omega)]
        unfold pSign
        rw [if_neg c44]
  unfold w_Model_wholeSignature
  have hsig : pSig ts = match (if (hd ts).1 = 40 then (pTypesF false (ts.tail.length + 1) [] ts.tail) else .inl (er ts)) with
      | .inl e => .inl e
      | .inr (ks, t1) => match pRes t1 with
        | .inl e => .inl e
        | .inr (κ, t2) => .inr ((ks, κ), t2) := by
    unfold pSig pTypes pSign
    by_cases c : (hd ts).1 = 40
    · rw [if_pos c, if_pos c] <;> rfl
    · rw [if_neg c, if_neg c]
  rw [hsig] at hQ hX
  refine mf_w_Model_need (Q := fun M' => (hd ts).1 = 40 ∧ TQ A L ts.tail M') (X := fun M' => (hd ts).1 ≠ 40 ∧ ThT (er ts) M') (fun M1 hf hp => ?_) (fun M1 hf hp => hX _ M1 (by rw [if_neg hp.1]) hp.2 ⟨hU.1.fr hf hG, hU.2.gf hf ((GF.rf hTG).fr hf hG (X := [])) hGs (by simp)⟩ ((GF.rf hTG).fr hf hG) (by rw [(rd_fr hf hG (by rfl) hs).2]; exact hrow)) (ct_need (b := 40) h hne (by omega) (fun M' a b => ⟨a, b⟩) (fun M' a b => ⟨a, b⟩))
  obtain ⟨c40, q1⟩ := hp
  rw [if_pos c40] at hQ hX
  have hne1 : ts.tail ≠ [] := tl_ne h hz hne (by omega)
  have hF1 : GF G X6 M M1 := (GF.rf hTG).fr hf hG
  have hrow1 : (6 ≤ rl M1 sTr ∧ rl M1 sTr ≤ 20000) := by rw [(rd_fr hf hG (by rfl) hs).2]; exact hrow
  have hu1 : TU A S M1 := ⟨hU.1.fr hf hG, hU.2.gf hf ((GF.rf hTG).fr hf hG (X := [])) hGs (by simp)⟩
  -- no types yet
  have e56 : ∀ f i k, f ≠ 11 → mI (sI M1 11 0 56 0) f i k = mI M1 f i k := fun f i k hf => by rw [mI_sI, if_neg (fun q => hf q.1)]
  have hF2 : GF G X6 M (sI M1 11 0 56 0) := hF1.of (fun s hs => rfl) (fun s hs i k => e56 _ i k (by have := hG.ob s hs; omega)) (fun s hs i => rfl) rfl rfl
  have q2 : TQ A L ts.tail (sI M1 11 0 56 0) := q1.of (fun k hk => by rw [mI_sI, if_neg (fun q => by omega)]) (fun _ => rfl) (fun _ => rfl) (fun _ => rfl) rfl rfl rfl
  have hR2 : TR A [] (sI M1 11 0 56 0) := ⟨rfl, Nat.zero_le _, hrow1, (fun κ hk => absurd hk (by simp)), fun k hk => absurd hk (Nat.not_lt_zero k)⟩
  have hu2 : TU A S (sI M1 11 0 56 0) := ⟨hu1.1.of rfl rfl (fun _ => rfl) (fun _ => rfl) (fun _ => rfl) (fun _ => rfl) rfl rfl rfl, hu1.2.of rfl rfl rfl (fun _ => rfl) (fun s hs => ⟨fun k => e56 _ _ k (by
    simp only [List.mem_cons, List.not_mem_nil, or_false] at hs
    rcases hs with e | e | e | e | e <;> (rw [e]; decide)), rfl⟩)⟩
  generalize sI M1 11 0 56 0 = M2 at hF2 q2 hR2 hu2 ⊢
  obtain ⟨k, k1, k2, ⟨k3, k4, k5⟩, k6, k7, -⟩ := q2.top hne1
  rw [k2, k3, oN_tnc (by omega), k6.1]
  refine ⟨(vp_oN (by omega)).mpr k1, ?_⟩
  have hQ' : ∀ ks' κ t2 M', pTypesF false (ts.tail.length + 1) [] ts.tail = .inr (ks', t2) → (∀ κ ∈ ks', kok A κ) → ∀ t3, pRes t2 = .inr (κ, t3) → kok A κ → TQ A L t3 M' → TU A (ins S (sg A ks' κ)) M' → GF G X6 M M' → (6 ≤ rl M' sTr ∧ rl M' sTr ≤ 20000) → Q (Int32.ofNat (S.idxOf (sg A ks' κ))) M' := fun ks' κ t2 M' a b t3 c e f g i j => hQ ks' κ t3 M' (by rw [a]; simp only [c]) b e f g i j
  have hX' : ∀ e M', (pTypesF false (ts.tail.length + 1) [] ts.tail = .inl e ∨ ∃ ks' t2, pTypesF false (ts.tail.length + 1) [] ts.tail = .inr (ks', t2) ∧ pRes t2 = .inl e) → ThT e M' → TU A S M' → GF G X6 M M' → (6 ≤ rl M' sTr ∧ rl M' sTr ≤ 20000) → X M' := fun e M' a b c f g => by
    rcases a with a | ⟨ks', t2, a, a2⟩
    · exact hX e M' (by rw [a]) b c f g
    · exact hX e M' (by rw [a]; simp only [a2]) b c f g
  have tl5 := tlen q1
  by_cases c41 : (hd ts.tail).1 = 41
  · refine itp (by rw [c41]; rfl) (tail ts.tail.length [] ts.tail M2 (by omega) q2 hne1 hR2 (by simp) hu2 hF2 hQ' hX' (fun c => absurd c41 c))
  · refine itn (ne_oN (b := 41) c41 (by omega) (by omega)) ?_
    have hexp : pTypesF false (ts.tail.length + 1) [] ts.tail = match pType ts.tail with
        | .inl e => .inl e
        | .inr (κ, t2) => pTypesF false ts.tail.length ([] ++ [κ]) t2 := by
      conv => lhs; unfold pTypesF
      rw [if_neg c41]
      show (if false = true ∧ ([] : List Kd).length = 6 then _ else _) = _
      rw [if_neg (fun q => by cases q.1)]
      all_goals (cases pType ts.tail <;> rfl)
    rw [hexp] at hQ' hX'
    refine mf_w_Model_addType (fun M' _ hh => ⟨_, hh⟩) (fun M' _ hh => hh) (one ts.tail.length [] ts.tail M2 q2 hne1 hR2 (by simp) hu2 hF2 (fun κ t2 M3 a b c e f g => ?_) (fun e M' a b c f g => ?_))
    · rw [a] at hQ' hX'
      have et := pType_tail a
      have := tail_lt hne1
      rw [← et] at this
      exact loop _ ([] ++ [κ]) t2 M3 (by omega) (by simp; omega) (by simp) b c e f g hQ' hX'
    · rw [a] at hX'
      exact hX' e M' (Or.inl rfl) b c f g

/-! B: what a world declares -/
/-- name, type, flags, first value, whether it is told -/
abbrev Fld : Type := Nm × Kd × Int32 × Int32 × Bool
/-- from, to, where it goes, the class (none: any) -/
abbrev Hnd : Type := Nat × Nat × Nat × Nm
/-- operation, two numbers, targets, class, member, types, result or type, the frame in front of it -/
abbrev Ins : Type := Nat × Int32 × Int32 × List Nat × Nm × Nm × List Kd × Kd × Option (List Kd × List Kd)
/-- name, types, result, flags, room of the stack, of locals, code, handlers -/
abbrev Mth : Type := Nm × List Kd × Kd × Int32 × Int32 × Int32 × List Ins × List Hnd
/-- name, parent, faces, flags, fields, methods -/
abbrev Cls : Type := Nm × Nm × List Nm × Int32 × List Fld × List Mth
abbrev gc (W : List Cls) (c : Nat) : Cls := W.getD c ([], [], [], 0, [], [])
/-- the class of a name -/
def fnd : List Cls → Nm → Option Nat
  | [], _ => none
  | c :: W, nm => if c.1 = nm then some 0 else (fnd W nm).map (· + 1)
def oC (o : Option Nat) : Int32 := match o with
  | some k => Int32.ofNat k
  | none => -2
theorem fnd_spec {nm : Nm} : ∀ {W : List Cls}, match fnd W nm with
    | some k => k < W.length ∧ (gc W k).1 = nm ∧ ∀ j, j < k → (gc W j).1 ≠ nm
    | none => ∀ j, j < W.length → (gc W j).1 ≠ nm
  | [] => fun j h => absurd h (Nat.not_lt_zero j)
  | c :: W => by
    have ih := fnd_spec (nm := nm) (W := W)
    unfold fnd
    by_cases e : c.1 = nm
    · rw [if_pos e]
      exact ⟨by simp, e, fun j h => absurd h (Nat.not_lt_zero j)⟩
    · rw [if_neg e]
      cases h : fnd W nm with
      | none =>
        rw [h] at ih
        intro j hj
        cases j with
        | zero => exact e
        | succ j => exact ih j (by simpa using hj)
      | some k =>
        rw [h] at ih
        refine ⟨by simpa using ih.1, ih.2.1, fun j hj => ?_⟩
        cases j with
        | zero => exact e
        | succ j => exact ih.2.2 j (Nat.lt_of_succ_lt_succ hj)
/-- names of classes, as the works hold them -/
def cNm (A : List Nm) (W : List Cls) (w : Nat) (M : Mem) : Prop := (mI M 5 w 2 = Int32.ofNat W.length ∧ mL M 36 w = 51 ∧ W.length ≤ 51 ∧ A.length ≤ 200000) ∧ ∀ c, c < W.length → mI M 36 w c = nc A (gc W c).1 ∧ (gc W c).1 ∈ A
/-- and the twin -/
def tNm (A : List Nm) (W : List Cls) (w : Nat) (M : Mem) : Prop := (mI M 12 w 2 = Int32.ofNat W.length ∧ mL M 130 w = 51 ∧ W.length ≤ 51 ∧ A.length ≤ 200000) ∧ ∀ c, c < W.length → mI M 130 w c = nc A (gc W c).1 ∧ (gc W c).1 ∈ A
theorem c_find {A : List Nm} {W : List Cls} {w : Nat} {nm : Nm} {Q : Int32 → Mem → Prop} {M : Mem} (h : cNm A W w M) (hm : nm ∈ A) (hQ : Q (oC (fnd W nm)) M) : w_World_find w (nc A nm) Q M := by
  obtain ⟨⟨h1, h2, h3, h4⟩, h5⟩ := h
  have hs := fnd_spec (nm := nm) (W := W)
  have main : ∀ d k, W.length - k < d → k ≤ W.length → (∀ j, j < k → (gc W j).1 ≠ nm) → w_World_find_L2 w Q d (nc A nm) (Int32.ofNat k) M := by
    intro d
    induction d with
    | zero => intro k h; omega
    | succ d ih =>
      intro k hd hk hno
      unfold w_World_find_L2
      rw [h1]
      by_cases e : k = W.length
      · refine itp (le_oN (by omega) (by omega)) ?_
        cases h : fnd W nm with
        | none => rw [h] at hQ; exact hQ
        | some j => rw [h] at hs; exact absurd hs.2.1 (hno j (by have := hs.1; omega))
      · refine itn (nle_oN (by omega) (by omega)) ?_
        rw [oN_tnc (by omega), h2]
        refine ⟨(vp_oN (by omega)).mpr (by omega), ?_⟩
        obtain ⟨e1, e2⟩ := h5 k (by omega)
        rw [e1]
        by_cases c : (gc W k).1 = nm
        · refine itp (by rw [c]) ?_
          cases h : fnd W nm with
          | none => rw [h] at hs; exact absurd c (hs k (by omega))
          | some j =>
            rw [h] at hs hQ
            have : j = k := by
              rcases Nat.lt_trichotomy j k with q | q | q
              · exact absurd hs.2.1 (hno j q)
              · exact q
              · exact absurd c (hs.2.2 k q)
            rw [← this]; exact hQ
        · refine itn (fun q => c ((nc_inj (by omega) e2 hm).mp q)) ?_
          rw [lit32 1, oN_add]
          refine ih (k + 1) (by omega) (by omega) (fun j hj => ?_)
          by_cases ej : j = k
          · rw [ej]; exact c
          · exact hno j (by omega)
  unfold w_World_find
  exact ⟨W.length + 1, main _ 0 (by omega) (by omega) (fun j hj => by omega)⟩
theorem ct_classOf {A : List Nm} {W : List Cls} {w : Nat} {nm : Nm} {Q : Int32 → Mem → Prop} {M : Mem} (hw : mR M 11 0 45 = some (12, w)) (h : tNm A W w M) (hm : nm ∈ A) (hQ : Q (oC (fnd W nm)) M) : w_Model_classOf 0 (nc A nm) Q M := by
  obtain ⟨⟨h1, h2, h3, h4⟩, h5⟩ := h
  have hs := fnd_spec (nm := nm) (W := W)
  have main : ∀ d k, W.length - k < d → k ≤ W.length → (∀ j, j < k → (gc W j).1 ≠ nm) → w_Model_classOf_L2 0 Q d (nc A nm) (Int32.ofNat k) M := by
    intro d
    induction d with
    | zero => intro k h; omega
    | succ d ih =>
      intro k hd hk hno
      unfold w_Model_classOf_L2
      refine ⟨w, hw, ?_⟩
      rw [h1]
      by_cases e : k = W.length
      · refine itp (le_oN (by omega) (by omega)) ?_
        cases h : fnd W nm with
        | none => rw [h] at hQ; exact hQ
        | some j => rw [h] at hs; exact absurd hs.2.1 (hno j (by have := hs.1; omega))
      · refine itn (nle_oN (by omega) (by omega)) ⟨w, hw, ?_⟩
        rw [oN_tnc (by omega), h2]
        refine ⟨(vp_oN (by omega)).mpr (by omega), ?_⟩
        obtain ⟨e1, e2⟩ := h5 k (by omega)
        rw [e1]
        by_cases c : (gc W k).1 = nm
        · refine itp (by rw [c]) ?_
          cases h : fnd W nm with
          | none => rw [h] at hs; exact absurd c (hs k (by omega))
          | some j =>
            rw [h] at hs hQ
            have : j = k := by
              rcases Nat.lt_trichotomy j k with q | q | q
              · exact absurd hs.2.1 (hno j q)
              · exact q
              · exact absurd c (hs.2.2 k q)
            rw [← this]; exact hQ
        · refine itn (fun q => c ((nc_inj (by omega) e2 hm).mp q)) ?_
          rw [lit32 1, oN_add]
          refine ih (k + 1) (by omega) (by omega) (fun j hj => ?_)
          by_cases ej : j = k
          · rw [ej]; exact c
          · exact hno j (by omega)
  unfold w_Model_classOf
  exact ⟨W.length + 1, main _ 0 (by omega) (by omega) (fun j hj => by omega)⟩
/-- whether a rule is asked: its bit among what is broken -/
def brk (br : Int32) (bit : Nat) : Bool := decide ((br >>> (Int32.ofNat bit &&& 31)) &&& 1 = 0)
theorem c_asks {w : Nat} {rule bit : Nat} {Q : Int32 → Mem → Prop} {M : Mem} (hb : (rule, bit) ∈ [(4, 0), (5, 1), (6, 2), (21, 3), (25, 4), (53, 5), (54, 6), (57, 7)]) (hQ : Q (b2 (brk (mI M 5 w 1) bit)) M) : w_World_asks w (Int32.ofNat rule) Q M := by
  have j46 : w_World_asks_j46 w Q (Int32.ofNat rule) M := by
    unfold w_World_asks_j46 w_World_bit
    unfold brk at hQ
    simp only [List.mem_cons, Prod.mk.injEq, List.not_mem_nil, or_false] at hb
    have fin : ∀ x : Int32, x = Int32.ofNat bit → (if (((mI M 5 w 1) >>> (x &&& 31)) &&& (1 : Int32)) = 0 then (Q (1 : Int32) M) else (Q (0 : Int32) M)) := fun x hx => by
      rw [hx]
      by_cases c : (mI M 5 w 1 >>> (Int32.ofNat bit &&& 31)) &&& 1 = 0
      · rw [decide_eq_true c] at hQ; exact itp c hQ
      · rw [decide_eq_false c] at hQ; exact itn c hQ
    rcases hb with ⟨e1, e2⟩ | ⟨e1, e2⟩ | ⟨e1, e2⟩ | ⟨e1, e2⟩ | ⟨e1, e2⟩ | ⟨e1, e2⟩ | ⟨e1, e2⟩ | ⟨e1, e2⟩ <;> subst e1 e2
    · exact itn (by decide) (fin _ (by decide))
    · exact itn (by decide) (fin _ (by decide))
    · exact itn (by decide) (fin _ (by decide))
    · exact itp (by decide) (itp (by decide) (fin _ (by decide)))
    · exact itp (by decide) (itn (by decide) (itp (by decide) (fin _ (by decide))))
    · exact itp (by decide) (itn (by decide) (itn (by decide) (itp (by decide) (fin _ (by decide)))))
    · exact itp (by decide) (itn (by decide) (itn (by decide) (itn (by decide) (itp (by decide) (fin _ (by decide))))))
    · exact itp (by decide) (itn (by decide) (itn (by decide) (itn (by decide) (itn (by decide) (fin _ (by decide))))))
  unfold w_World_asks
  simp only [List.mem_cons, Prod.mk.injEq, List.not_mem_nil, or_false] at hb
  rcases hb with ⟨e1, e2⟩ | ⟨e1, e2⟩ | ⟨e1, e2⟩ | ⟨e1, e2⟩ | ⟨e1, e2⟩ | ⟨e1, e2⟩ | ⟨e1, e2⟩ | ⟨e1, e2⟩ <;> subst e1
  · exact itp (by decide) j46
  · exact itn (by decide) (itp (by decide) j46)
  · exact itn (by decide) (itn (by decide) (itp (by decide) j46))
  · exact itn (by decide) (itn (by decide) (itn (by decide) (itp (by decide) j46)))
  · exact itn (by decide) (itn (by decide) (itn (by decide) (itn (by decide) (itp (by decide) j46))))
  · exact itn (by decide) (itn (by decide) (itn (by decide) (itn (by decide) (itn (by decide) (itp (by decide) j46)))))
  · exact itn (by decide) (itn (by decide) (itn (by decide) (itn (by decide) (itn (by decide) (itn (by decide) (itp (by decide) j46))))))
  · exact itn (by decide) (itn (by decide) (itn (by decide) (itn (by decide) (itn (by decide) (itn (by decide) (itn (by decide) (itp (by decide) j46)))))))

/-! B: the tape -/
def tpC (tp : List Int32) (M : Mem) : Prop := mI M 10 0 1 = Int32.ofNat tp.length ∧ mL M 400 0 = 6000 ∧ tp.length ≤ 6000 ∧ ∀ k, k < tp.length → mI M 400 0 k = gi tp k
def tpT (tp : List Int32) (M : Mem) : Prop := mI M 11 0 85 = Int32.ofNat tp.length ∧ mL M 402 1 = 6000 ∧ tp.length ≤ 6000 ∧ ∀ k, k < tp.length → mI M 402 1 k = gi tp k
def byt (v : Int32) (k : Nat) : Int32 := ((v >>> (Int32.ofNat k &&& 31)).toInt8.toInt32).toInt8.toInt32
def by4 (v : Int32) : List Int32 := [byt v 24, byt v 16, byt v 8, byt v 0]
theorem byt_log (v : Int32) {k : Nat} (hk : k = 24 ∨ k = 16 ∨ k = 8 ∨ k = 0) : (((v.toUInt32 >>> ((Int32.ofNat k).toUInt32 &&& Int32.toUInt32 31)).toInt32).toInt8.toInt32).toInt8.toInt32 = byt v k := by
  unfold byt
  have : ((v.toUInt32 >>> ((Int32.ofNat k).toUInt32 &&& Int32.toUInt32 31)).toInt32).toInt8 = (v >>> (Int32.ofNat k &&& 31)).toInt8 := by
    apply Int8.toBitVec_inj.mp
    rw [Int32.toBitVec_toInt8, Int32.toBitVec_toInt8, BitVec.signExtend_eq_setWidth_of_le _ (by decide), BitVec.signExtend_eq_setWidth_of_le _ (by decide)]
    have e1 : (v.toUInt32 >>> ((Int32.ofNat k).toUInt32 &&& Int32.toUInt32 31)).toInt32.toBitVec = v.toBitVec >>> k := by
      show (v.toUInt32 >>> ((Int32.ofNat k).toUInt32 &&& Int32.toUInt32 31)).toBitVec = _
      rcases hk with rfl | rfl | rfl | rfl <;> rfl
    have e2 : (v >>> (Int32.ofNat k &&& 31)).toBitVec = v.toBitVec.sshiftRight k := by
      rw [Int32.toBitVec_shiftRight]
      rcases hk with rfl | rfl | rfl | rfl <;> rfl
    rw [e1, e2]
    ext i hi
    rw [BitVec.getElem_setWidth, BitVec.getElem_setWidth, BitVec.getLsbD_ushiftRight, BitVec.getLsbD_sshiftRight]
    have h1 : ¬ 32 ≤ i := by omega
    have h2 : k + i < 32 := by omega
    simp [h1, h2]
  rw [this]
theorem gi_app {l : List Int32} {x : Int32} {j : Nat} (h : j < l.length) : gi (l ++ [x]) j = gi l j := by
  simp [gi, List.getD_eq_getElem?_getD, List.getElem?_append_left h]
theorem gi_end {l : List Int32} {x : Int32} : gi (l ++ [x]) l.length = x := by
  simp [gi, List.getD_eq_getElem?_getD]
theorem tpC.add {tp : List Int32} {M : Mem} {b : Int32} (h : tpC tp M) (hl : tp.length < 6000) : tpC (tp ++ [b]) (sI (sI M 400 0 tp.length b) 10 0 1 (Int32.ofNat (tp.length + 1))) := by
  obtain ⟨h1, h2, h3, h4⟩ := h
  refine ⟨by rw [List.length_append, List.length_singleton]; rfl, h2, by rw [List.length_append, List.length_singleton]; omega, fun k hk => ?_⟩
  rw [List.length_append, List.length_singleton] at hk
  have e : mI (sI (sI M 400 0 tp.length b) 10 0 1 (Int32.ofNat (tp.length + 1))) 400 0 k = if k = tp.length then b else mI M 400 0 k := by simp [mI_sI]
  rw [e]
  by_cases c : k = tp.length
  · rw [if_pos c, c, gi_end]
  · rw [if_neg c, gi_app (by omega)]; exact h4 k (by omega)
theorem tpT.add {tp : List Int32} {M : Mem} {b : Int32} (h : tpT tp M) (hl : tp.length < 6000) : tpT (tp ++ [b]) (sI (sI M 402 1 tp.length b) 11 0 85 (Int32.ofNat (tp.length + 1))) := by
  obtain ⟨h1, h2, h3, h4⟩ := h
  refine ⟨by rw [List.length_append, List.length_singleton]; rfl, h2, by rw [List.length_append, List.length_singleton]; omega, fun k hk => ?_⟩
  rw [List.length_append, List.length_singleton] at hk
  have e : mI (sI (sI M 402 1 tp.length b) 11 0 85 (Int32.ofNat (tp.length + 1))) 402 1 k = if k = tp.length then b else mI M 402 1 k := by simp [mI_sI]
  rw [e]
  by_cases c : k = tp.length
  · rw [if_pos c, c, gi_end]
  · rw [if_neg c, gi_app (by omega)]; exact h4 k (by omega)
theorem c_lay {tp : List Int32} {v : Int32} {Q : Mem → Prop} {M : Mem} (h : tpC tp M) (hl : tp.length + 4 ≤ 6000) (hQ : ∀ M', tpC (tp ++ by4 v) M' → Q M') : w_Works_lay 0 v Q M := by
  have st : ∀ n k tp M, tpC tp M → tp.length < 6000 → k ≤ 24 → (∀ M', tpC (tp ++ [byt v k]) M' → w_Works_lay_L3 0 Q n v (Int32.ofNat k + (-8)) M') → w_Works_lay_L3 0 Q (n + 1) v (Int32.ofNat k) M := by
    intro n k tp M h hl hk hn
    unfold w_Works_lay_L3
    refine itn (oN_nonneg (by omega)) ?_
    rw [h.1, h.2.1, oN_tnc (by omega)]
    refine ⟨(vp_oN (by omega)).mpr hl, _, rfl, ?_⟩
    have e : mI (sI M 400 0 tp.length (((v >>> (Int32.ofNat k &&& 31)).toInt8.toInt32).toInt8.toInt32)) 10 0 1 = Int32.ofNat tp.length := h.1
    rw [e, lit32 1, oN_add]
    exact hn _ (h.add hl)
  unfold w_Works_lay
  refine ⟨5, st 4 24 tp M h (by omega) (by omega) (fun M1 h1 => ?_)⟩
  rw [show Int32.ofNat 24 + (-8) = Int32.ofNat 16 by decide]
  refine st 3 16 _ M1 h1 (by simp; omega) (by omega) (fun M2 h2 => ?_)
  rw [show Int32.ofNat 16 + (-8) = Int32.ofNat 8 by decide]
  refine st 2 8 _ M2 h2 (by simp; omega) (by omega) (fun M3 h3 => ?_)
  rw [show Int32.ofNat 8 + (-8) = Int32.ofNat 0 by decide]
  refine st 1 0 _ M3 h3 (by simp; omega) (by omega) (fun M4 h4 => ?_)
  unfold w_Works_lay_L3
  refine itp (by decide) (hQ M4 ?_)
  simpa [by4] using h4
theorem ct_feedOne {tp : List Int32} {v : Int32} {Q : Mem → Prop} {M : Mem} (h : tpT tp M) (hl : tp.length + 4 ≤ 6000) (hQ : ∀ M', tpT (tp ++ by4 v) M' → Q M') : w_Model_feedOne 0 v Q M := by
  have st : ∀ n k tp M, tpT tp M → tp.length < 6000 → (k = 24 ∨ k = 16 ∨ k = 8 ∨ k = 0) → (∀ M', tpT (tp ++ [byt v k]) M' → w_Model_feedOne_L3 0 Q n v (Int32.ofNat k + (-8)) M') → w_Model_feedOne_L3 0 Q (n + 1) v (Int32.ofNat k) M := by
    intro n k tp M h hl hk hn
    unfold w_Model_feedOne_L3
    refine itn (oN_nonneg (by omega)) ?_
    rw [h.1, h.2.1, oN_tnc (by omega), byt_log v hk]
    refine ⟨(vp_oN (by omega)).mpr hl, _, rfl, ?_⟩
    have e : mI (sI M 402 1 tp.length (byt v k)) 11 0 85 = Int32.ofNat tp.length := h.1
    rw [e, lit32 1, oN_add]
    exact hn _ (h.add hl)
  unfold w_Model_feedOne
  refine ⟨5, st 4 24 tp M h (by omega) (by omega) (fun M1 h1 => ?_)⟩
  rw [show Int32.ofNat 24 + (-8) = Int32.ofNat 16 by decide]
  refine st 3 16 _ M1 h1 (by simp; omega) (by omega) (fun M2 h2 => ?_)
  rw [show Int32.ofNat 16 + (-8) = Int32.ofNat 8 by decide]
  refine st 2 8 _ M2 h2 (by simp; omega) (by omega) (fun M3 h3 => ?_)
  rw [show Int32.ofNat 8 + (-8) = Int32.ofNat 0 by decide]
  refine st 1 0 _ M3 h3 (by simp; omega) (by omega) (fun M4 h4 => ?_)
  unfold w_Model_feedOne_L3
  refine itp (by decide) (hQ M4 ?_)
  simpa [by4] using h4
/-- feed: what the tape becomes, what is answered -/
def sFeed (tp : List Int32) (a b c d e : Int32) : Int32 × List Int32 := if tp.length + 20 ≤ 6000 then (Int32.ofNat (tp.length + 20), tp ++ by4 a ++ by4 b ++ by4 c ++ by4 d ++ by4 e) else (-3, tp)
theorem by4_len (v : Int32) : (by4 v).length = 4 := rfl
theorem c_feed {tp : List Int32} {a b c d e : Int32} {Q : Int32 → Mem → Prop} {M : Mem} (h : tpC tp M) (hQ : ∀ M', tpC (sFeed tp a b c d e).2 M' → Q (sFeed tp a b c d e).1 M') : w_Works_feed 0 a b c d e Q M := by
  unfold w_Works_feed
  unfold sFeed at hQ
  rw [h.1, lit32 20, oN_add]
  have hl := h.2.2.1
  by_cases c0 : tp.length + 20 ≤ 6000
  · rw [if_pos c0] at hQ
    refine itp (le_oN (b := 6000) c0 (by omega)) ?_
    refine c_lay h (by omega) (fun M1 h1 => c_lay h1 (by simp [by4_len]; omega) (fun M2 h2 => c_lay h2 (by simp [by4_len]; omega) (fun M3 h3 => c_lay h3 (by simp [by4_len]; omega) (fun M4 h4 => c_lay h4 (by simp [by4_len]; omega) (fun M5 h5 => ?_)))))
    have := hQ M5 h5
    rw [h5.1]
    simpa [by4_len, Nat.add_assoc] using this
  · rw [if_neg c0] at hQ
    exact itn (nle_oN (b := 6000) (by omega) (by omega)) (hQ M h)
theorem ct_feed {tp : List Int32} {a b c d e : Int32} {Q : Int32 → Mem → Prop} {M : Mem} (h : tpT tp M) (hQ : ∀ M', tpT (sFeed tp a b c d e).2 M' → Q (sFeed tp a b c d e).1 M') : w_Model_feed 0 a b c d e Q M := by
  unfold w_Model_feed
  unfold sFeed at hQ
  rw [h.1, lit32 20, oN_add]
  have hl := h.2.2.1
  by_cases c0 : tp.length + 20 ≤ 6000
  · rw [if_pos c0] at hQ
    refine itp (le_oN (b := 6000) c0 (by omega)) ?_
    refine ct_feedOne h (by omega) (fun M1 h1 => ct_feedOne h1 (by simp [by4_len]; omega) (fun M2 h2 => ct_feedOne h2 (by simp [by4_len]; omega) (fun M3 h3 => ct_feedOne h3 (by simp [by4_len]; omega) (fun M4 h4 => ct_feedOne h4 (by simp [by4_len]; omega) (fun M5 h5 => ?_)))))
    have := hQ M5 h5
    rw [h5.1]
    simpa [by4_len, Nat.add_assoc] using this
  · rw [if_neg c0] at hQ
    exact itn (nle_oN (b := 6000) (by omega) (by omega)) (hQ M h)
/-- cut -/
def sCut (tp : List Int32) (n : Int32) : Int32 × List Int32 := if 0 ≤ n ∧ n ≤ Int32.ofNat tp.length then (Int32.ofNat (tp.length - n.toNatClampNeg), tp.take (tp.length - n.toNatClampNeg)) else (-1, tp)
theorem cut_num {tp : List Int32} {n : Int32} (hl : tp.length ≤ 6000) (h : 0 ≤ n ∧ n ≤ Int32.ofNat tp.length) : ∃ k, k ≤ tp.length ∧ n = Int32.ofNat k ∧ n.toNatClampNeg = k := by
  have e := ofNat_tnc (x := n) (nlt32.mpr h.1)
  refine ⟨n.toNatClampNeg, ?_, e.symm, rfl⟩
  have := h.2
  rw [← e] at this
  exact (oN_le (tnc_lt n) (by omega)).mp this
theorem take_gi {tp : List Int32} {k m : Nat} (h : k < m) : gi (tp.take m) k = gi tp k := by
  simp [gi, List.getD_eq_getElem?_getD, List.getElem?_take, h]
theorem c_cut {tp : List Int32} {n : Int32} {Q : Int32 → Mem → Prop} {M : Mem} (h : tpC tp M) (hQ : ∀ M', tpC (sCut tp n).2 M' → Q (sCut tp n).1 M') : w_Works_cut 0 n Q M := by
  obtain ⟨h1, h2, h3, h4⟩ := id h
  unfold w_Works_cut
  unfold sCut at hQ
  refine c_isIn ?_
  rw [h1]
  by_cases c : 0 ≤ n ∧ n ≤ Int32.ofNat tp.length
  · rw [if_pos c] at hQ ⊢
    obtain ⟨k, e1, e2, e3⟩ := cut_num h3 c
    rw [e3] at hQ
    refine itn (by decide) ?_
    have e : ∀ v, mI (sI M 10 0 1 v) 10 0 1 = v := fun v => rfl
    rw [e, e2, oN_sub e1]
    refine hQ _ ⟨?_, h2, by rw [List.length_take]; omega, fun j hj => ?_⟩
    · rw [List.length_take, Nat.min_eq_left (by omega)]; rfl
    · rw [List.length_take] at hj
      rw [take_gi (by omega)]; exact h4 j (by omega)
  · rw [if_neg c] at hQ ⊢
    exact itp rfl (hQ M h)
theorem ct_cut {tp : List Int32} {n : Int32} {Q : Int32 → Mem → Prop} {M : Mem} (h : tpT tp M) (hQ : ∀ M', tpT (sCut tp n).2 M' → Q (sCut tp n).1 M') : w_Model_cut 0 n Q M := by
  obtain ⟨h1, h2, h3, h4⟩ := id h
  unfold w_Model_cut
  unfold sCut at hQ
  by_cases c1 : n < 0
  · rw [if_neg (fun q => absurd q.1 (nle32.mpr c1))] at hQ
    exact itp c1 (hQ M h)
  refine itn c1 ?_
  rw [h1]
  by_cases c2 : n ≤ Int32.ofNat tp.length
  · have c : 0 ≤ n ∧ n ≤ Int32.ofNat tp.length := ⟨nlt32.mp c1, c2⟩
    rw [if_pos c] at hQ
    obtain ⟨k, e1, e2, e3⟩ := cut_num h3 c
    rw [e3] at hQ
    refine itp c2 ?_
    have e : ∀ v, mI (sI M 11 0 85 v) 11 0 85 = v := fun v => rfl
    rw [e, e2, oN_sub e1]
    refine hQ _ ⟨?_, h2, by rw [List.length_take]; omega, fun j hj => ?_⟩
    · rw [List.length_take, Nat.min_eq_left (by omega)]; rfl
    · rw [List.length_take] at hj
      rw [take_gi (by omega)]; exact h4 j (by omega)
  · rw [if_neg (fun q => c2 q.2)] at hQ
    exact itn c2 (hQ M h)

/-! B: above and below -/
def pcC (A : List Nm) (par : Nm) : Int32 := if par = [] then -1 else nc A par
def pcT (A : List Nm) (par : Nm) : Int32 := if par = [] then -2 else nc A par
abbrev gf (c : Cls) (i : Nat) : Nm := c.2.2.1.getD i []
/-- classes, as the works hold them -/
def cCl (A : List Nm) (W : List Cls) (w : Nat) (M : Mem) : Prop := cNm A W w M ∧ (mL M 37 w = 51 ∧ mL M 38 w = 204 ∧ mL M 39 w = 51 ∧ mL M 40 w = 51) ∧ ∀ c, c < W.length →
  (mI M 37 w c = pcC A (gc W c).2.1 ∧ ((gc W c).2.1 = [] ∨ (gc W c).2.1 ∈ A) ∧ (gc W c).1 ≠ []) ∧ (mI M 39 w c = Int32.ofNat (gc W c).2.2.1.length ∧ (gc W c).2.2.1.length ≤ 4 ∧ ∀ i, i < (gc W c).2.2.1.length → mI M 38 w (4 * c + i) = nc A (gf (gc W c) i) ∧ gf (gc W c) i ∈ A) ∧ mI M 40 w c = (gc W c).2.2.2.1
def tCl (A : List Nm) (W : List Cls) (w : Nat) (M : Mem) : Prop := tNm A W w M ∧ (mL M 131 w = 51 ∧ mL M 133 w = 204 ∧ mL M 134 w = 51 ∧ mL M 132 w = 51) ∧ ∀ c, c < W.length →
  (mI M 131 w c = pcT A (gc W c).2.1 ∧ ((gc W c).2.1 = [] ∨ (gc W c).2.1 ∈ A) ∧ (gc W c).1 ≠ []) ∧ (mI M 134 w c = Int32.ofNat (gc W c).2.2.1.length ∧ (gc W c).2.2.1.length ≤ 4 ∧ ∀ i, i < (gc W c).2.2.1.length → mI M 133 w (4 * c + i) = nc A (gf (gc W c) i) ∧ gf (gc W c) i ∈ A) ∧ mI M 132 w c = (gc W c).2.2.2.1
def isFc (W : List Cls) (c : Nat) : Bool := decide (¬ (gc W c).2.2.2.1 &&& 4 = 0)
/-- the parent: Thing of a face -/
def upW (W : List Cls) (c : Nat) : Option Nat := if c = 0 then none else if isFc W c then some 0 else fnd W (gc W c).2.1
/-- where one comes to from a class at once: the parent (as it is told, or Thing of a face), the faces -/
def dirW (told : Bool) (W : List Cls) (c i : Nat) : Option Nat := if i = 0 then (if told then fnd W (gc W c).2.1 else upW W c) else fnd W (gf (gc W c) (i - 1))
def edge (told : Bool) (W : List Cls) (c d : Nat) : Prop := ∃ i, i ≤ (gc W c).2.2.1.length ∧ dirW told W c i = some d
def Rc (e : Nat → Nat → Prop) : Nat → Nat → Nat → Prop
  | 0, a, b => a = b
  | n + 1, a, b => ∃ c, e a c ∧ Rc e n c b
def Reach (e : Nat → Nat → Prop) (a b : Nat) : Prop := ∃ n, Rc e n a b
theorem Rc.snoc {e : Nat → Nat → Prop} : ∀ {n a b c : Nat}, Rc e n a b → e b c → Rc e (n + 1) a c
  | 0, a, b, c, h, h1 => ⟨c, (show a = b from h) ▸ h1, rfl⟩
  | n + 1, a, b, c, ⟨d, h2, h3⟩, h1 => ⟨d, h2, Rc.snoc h3 h1⟩
theorem Reach.snoc {e : Nat → Nat → Prop} {a b c : Nat} (h : Reach e a b) (h1 : e b c) : Reach e a c := h.elim fun n q => ⟨n + 1, q.snoc h1⟩
theorem Reach.rf (e : Nat → Nat → Prop) (a : Nat) : Reach e a a := ⟨0, rfl⟩
/-- what is closed has all that is reached -/
theorem Reach.clo {e : Nat → Nat → Prop} {V : Nat → Prop} (hc : ∀ a b, V a → e a b → V b) {a b : Nat} (h : Reach e a b) (ha : V a) : V b := by
  obtain ⟨n, h⟩ := h
  induction n generalizing a with
  | zero => exact (show a = b from h) ▸ ha
  | succ n ih => obtain ⟨c, h1, h2⟩ := h; exact ih (hc a c ha h1) h2
theorem fnd_lt {W : List Cls} {nm : Nm} {d : Nat} (h : fnd W nm = some d) : d < W.length := by
  have := fnd_spec (nm := nm) (W := W)
  rw [h] at this; exact this.1
theorem up_lt {W : List Cls} {c d : Nat} (hc : c < W.length) (h : upW W c = some d) : d < W.length := by
  unfold upW at h
  split at h
  · cases h
  · split at h
    · cases h; omega
    · exact fnd_lt h
theorem edge_lt {told : Bool} {W : List Cls} {c d : Nat} (hc : c < W.length) (h : edge told W c d) : d < W.length := by
  obtain ⟨i, -, h⟩ := h
  unfold dirW at h
  split at h
  · split at h
    · exact fnd_lt h
    · exact up_lt hc h
  · exact fnd_lt h
theorem fnd_nil {W : List Cls} (h : ∀ c, c < W.length → (gc W c).1 ≠ []) : fnd W [] = none := by
  have := fnd_spec (nm := []) (W := W)
  cases e : fnd W [] with
  | none => rfl
  | some k => rw [e] at this; exact absurd this.2.1 (h k this.1)
theorem c_findNeg {A : List Nm} {W : List Cls} {w : Nat} {x : Int32} {Q : Int32 → Mem → Prop} {M : Mem} (h : cNm A W w M) (hx : x < 0) (hQ : Q (-2) M) : w_World_find w x Q M := by
  obtain ⟨⟨h1, h2, h3, h4⟩, h5⟩ := h
  have main : ∀ d k, W.length - k < d → k ≤ W.length → w_World_find_L2 w Q d x (Int32.ofNat k) M := by
    intro d
    induction d with
    | zero => intro k h; omega
    | succ d ih =>
      intro k hd hk
      unfold w_World_find_L2
      rw [h1]
      by_cases e : k = W.length
      · exact itp (le_oN (by omega) (by omega)) hQ
      · refine itn (nle_oN (by omega) (by omega)) ?_
        rw [oN_tnc (by omega), h2]
        refine ⟨(vp_oN (by omega)).mpr (by omega), ?_⟩
        obtain ⟨e1, e2⟩ := h5 k (by omega)
        have := List.idxOf_lt_length_iff.mpr e2
        rw [e1]
        refine itn (fun q => ?_) ?_
        · rw [← q] at hx; exact oN_nonneg (by omega) hx
        · rw [lit32 1, oN_add]; exact ih (k + 1) (by omega) (by omega)
  unfold w_World_find
  exact ⟨W.length + 1, main _ 0 (by omega) (by omega)⟩
theorem c_findP {A : List Nm} {W : List Cls} {w : Nat} {par : Nm} {Q : Int32 → Mem → Prop} {M : Mem} (h : cCl A W w M) (hp : par = [] ∨ par ∈ A) (hQ : Q (oC (fnd W par)) M) : w_World_find w (pcC A par) Q M := by
  unfold pcC
  by_cases e : par = []
  · rw [if_pos e]
    rw [e, fnd_nil (fun c hc => (h.2.2 c hc).1.2.2)] at hQ
    exact c_findNeg h.1 (by decide) hQ
  · rw [if_neg e]
    exact c_find h.1 (hp.resolve_left e) hQ
theorem c_isFace {A : List Nm} {W : List Cls} {w c : Nat} {Q : Int32 → Mem → Prop} {M : Mem} (h : cCl A W w M) (hc : c < W.length) (hQ : Q (b2 (isFc W c)) M) : w_World_isFace w (Int32.ofNat c) Q M := by
  have hl := h.1.1.2.2.1
  unfold w_World_isFace
  rw [oN_tnc (by omega), h.2.1.2.2.2, (h.2.2 c hc).2.2]
  refine ⟨(vp_oN (by omega)).mpr (by omega), ?_⟩
  unfold isFc at hQ
  by_cases e : (gc W c).2.2.2.1 &&& 4 = 0
  · rw [decide_eq_false (fun q => q e)] at hQ; exact itp e hQ
  · rw [decide_eq_true e] at hQ; exact itn e hQ
theorem c_up {A : List Nm} {W : List Cls} {w c : Nat} {Q : Int32 → Mem → Prop} {M : Mem} (h : cCl A W w M) (hc : c < W.length) (hQ : Q (oC (upW W c)) M) : w_World_up w (Int32.ofNat c) Q M := by
  have hl := h.1.1.2.2.1
  unfold w_World_up
  unfold upW at hQ
  by_cases e : c = 0
  · rw [if_pos e] at hQ
    exact itp (by rw [e]; rfl) hQ
  · rw [if_neg e] at hQ
    refine itn (ne_oN (b := 0) e (by omega) (by omega)) (c_isFace h hc ?_)
    cases e2 : isFc W c with
    | true => rw [if_pos e2] at hQ; exact itn (by decide) hQ
    | false =>
      rw [if_neg (by rw [e2]; decide)] at hQ
      refine itp (by decide) ?_
      rw [oN_tnc (by omega), h.2.1.1, (h.2.2 c hc).1.1]
      exact ⟨(vp_oN (by omega)).mpr (by omega), c_findP h (h.2.2 c hc).1.2.1 hQ⟩
-- stamps
def cSt (w : Nat) (M : Mem) : Prop := (mL M 77 w = 51 ∧ mL M 78 w = 52) ∧ ∀ i, i < 51 → (mI M 77 w i).toUInt32.toNat ≤ (mI M 5 w 61).toUInt32.toNat
theorem c_nextStamp {w : Nat} {Q : Mem → Prop} {M : Mem} (h : cSt w M) (hQ : ∀ M', (mL M' 77 w = 51 ∧ mL M' 78 w = 52) → (∀ i, i < 51 → mI M' 77 w i ≠ mI M' 5 w 61 ∧ (mI M' 77 w i).toUInt32.toNat ≤ (mI M' 5 w 61).toUInt32.toNat) → Q M') : w_World_nextStamp w Q M := by
  obtain ⟨⟨h1, h2⟩, h3⟩ := h
  unfold w_World_nextStamp
  have e : ∀ v, mI (sI M 5 w 61 v) 5 w 61 = v := fun v => by rw [mI_sI, if_pos ⟨rfl, rfl, rfl⟩]
  rw [e]
  have e7 : ∀ v i, mI (sI M 5 w 61 v) 77 w i = mI M 77 w i := fun v i => rfl
  by_cases c : mI M 5 w 61 + 1 = 0
  · refine itp c ⟨by show mL M 77 w < _; omega, _, rfl, hQ _ ⟨h1, h2⟩ (fun i hi => ?_)⟩
    have e1 : mI (sI (flI (sI M 5 w 61 (mI M 5 w 61 + 1)) 77 w 0) 5 w 61 1) 77 w i = 0 := by
      show (if (77 : Nat) = 77 ∧ w = w ∧ i < mL M 77 w then (0 : Int32) else _) = 0
      rw [if_pos ⟨rfl, rfl, by omega⟩]
    have e2 : mI (sI (flI (sI M 5 w 61 (mI M 5 w 61 + 1)) 77 w 0) 5 w 61 1) 5 w 61 = 1 := by rw [mI_sI, if_pos ⟨rfl, rfl, rfl⟩]
    rw [e1, e2]
    decide
  · refine itn c (hQ _ ⟨h1, h2⟩ (fun i hi => ?_))
    rw [e, e7]
    have hs := h3 i hi
    have hn : (mI M 5 w 61 + 1).toUInt32.toNat = (mI M 5 w 61).toUInt32.toNat + 1 := by
      rw [show (mI M 5 w 61 + 1).toUInt32 = (mI M 5 w 61).toUInt32 + 1 from rfl, UInt32.toNat_add]
      have hlt := (mI M 5 w 61).toUInt32.toNat_lt
      have : (1 : UInt32).toNat = 1 := by decide
      rw [this]
      by_cases q : (mI M 5 w 61).toUInt32.toNat = 4294967295
      · exfalso
        apply c
        have hz : (mI M 5 w 61 + 1).toUInt32 = 0 := by
          apply UInt32.toNat_inj.mp
          rw [show (mI M 5 w 61 + 1).toUInt32 = (mI M 5 w 61).toUInt32 + 1 from rfl, UInt32.toNat_add, this, q]; rfl
        apply Int32.toBitVec_inj.mp
        exact congrArg UInt32.toBitVec hz
      · omega
    refine ⟨fun q => ?_, by omega⟩
    rw [q, hn] at hs
    omega

theorem nodup_len {l : List Nat} {n : Nat} (hn : l.Nodup) (h : ∀ x ∈ l, x < n) : l.length ≤ n := by
  have : l ⊆ List.range n := fun x hx => List.mem_range.mpr (h x hx)
  have key : ∀ (l m : List Nat), l.Nodup → l ⊆ m → l.length ≤ m.length := by
    intro l
    induction l with
    | nil => intro m _ _; simp
    | cons a l ih =>
      intro m hn hs
      have ha := hs List.mem_cons_self
      obtain ⟨hn1, hn2⟩ := List.nodup_cons.mp hn
      have h1 : l ⊆ m.erase a := fun x hx => (List.mem_erase_of_ne (fun (e : x = a) => hn1 (e ▸ hx))).mpr (hs (List.mem_cons_of_mem _ hx))
      have := ih _ hn2 h1
      rw [List.length_erase_of_mem ha] at this
      have := List.length_pos_of_mem ha
      simp; omega
  have := key l _ hn this
  simpa using this
abbrev gn0 (l : List Nat) (k : Nat) : Nat := l.getD k 0
/-- while one looks up from a class: st are still to be looked at, vis were come to -/
def DF (A : List Nm) (W : List Cls) (w k0 : Nat) (st vis : List Nat) (M : Mem) : Prop :=
  cCl A W w M ∧ (mL M 77 w = 51 ∧ mL M 78 w = 52) ∧ (∀ i, i < 51 → (mI M 77 w i = mI M 5 w 61 ↔ i ∈ vis) ∧ (mI M 77 w i).toUInt32.toNat ≤ (mI M 5 w 61).toUInt32.toNat) ∧ (vis.Nodup ∧ st.Nodup) ∧ (∀ v ∈ vis, v < W.length ∧ Reach (edge false W) k0 v) ∧ (∀ v ∈ st, v ∈ vis) ∧ ∀ j, j < st.length → mI M 78 w j = Int32.ofNat (gn0 st j)
theorem DF.cl {A : List Nm} {W : List Cls} {w : Nat} {M : Mem} (h : cCl A W w M) {k j : Nat} {a b : Int32} : cCl A W w (sI (sI M 77 w k a) 78 w j b) := h
theorem DF.push {A : List Nm} {W : List Cls} {w k0 d : Nat} {st vis : List Nat} {M : Mem} (h : DF A W w k0 st vis M) (hd : d < W.length) (hr : Reach (edge false W) k0 d) (hn : d ∉ vis) : DF A W w k0 (st ++ [d]) (vis ++ [d]) (sI (sI M 77 w d (mI M 5 w 61)) 78 w st.length (Int32.ofNat d)) := by
  obtain ⟨h1, h2, h3, ⟨h4, h5⟩, h6, h7, h8⟩ := h
  have hl := h1.1.1.2.2.1
  have nd : ∀ {l : List Nat}, l.Nodup → (∀ x ∈ l, x ∈ vis) → (l ++ [d]).Nodup := fun {l} hl' hv => by
    rw [List.nodup_append]
    exact ⟨hl', by simp, fun a ha b hb => by simp at hb; subst hb; exact fun e => hn (hv _ (e ▸ ha))⟩
  refine ⟨DF.cl h1, h2, fun i hi => ?_, ⟨nd h4 (fun x hx => hx), nd h5 h7⟩, fun v hv => ?_, fun v hv => ?_, fun j hj => ?_⟩
  · have e1 : mI (sI (sI M 77 w d (mI M 5 w 61)) 78 w st.length (Int32.ofNat d)) 77 w i = if i = d then mI M 5 w 61 else mI M 77 w i := by
      rw [mI_sI, if_neg (fun q => absurd q.1 (by decide)), mI_sI]
      by_cases c : i = d
      · rw [if_pos ⟨rfl, rfl, c⟩, if_pos c]
      · rw [if_neg (fun q => c q.2.2), if_neg c]
    have e2 : mI (sI (sI M 77 w d (mI M 5 w 61)) 78 w st.length (Int32.ofNat d)) 5 w 61 = mI M 5 w 61 := rfl
    rw [e1, e2]
    by_cases c : i = d
    · rw [if_pos c]; exact ⟨⟨fun _ => by rw [c]; simp, fun _ => rfl⟩, Nat.le_refl _⟩
    · rw [if_neg c]
      refine ⟨(h3 i hi).1.trans ?_, (h3 i hi).2⟩
      simp [c]
  · rcases List.mem_append.mp hv with q | q
    · exact h6 v q
    · simp at q; rw [q]; exact ⟨hd, hr⟩
  · rcases List.mem_append.mp hv with q | q
    · exact List.mem_append_left _ (h7 v q)
    · exact List.mem_append_right _ q
  · rw [List.length_append, List.length_singleton] at hj
    rw [mI_sI]
    by_cases c : j = st.length
    · rw [if_pos ⟨rfl, rfl, c⟩, c]
      simp [gn0, List.getD_eq_getElem?_getD]
    · rw [if_neg (fun q => c q.2.2), mI_sI, if_neg (fun q => absurd q.1 (by decide)), h8 j (by omega)]
      simp [gn0, List.getD_eq_getElem?_getD, List.getElem?_append_left (show j < st.length by omega)]
set_option maxRecDepth 4000 in
theorem c_isBelow {A : List Nm} {W : List Cls} {w k ab : Nat} {Q : Int32 → Mem → Prop} {M : Mem} (hW : cCl A W w M) (hS : cSt w M) (hk : k < W.length) (ha : ab < 51)
    (hQ : ∀ M' (b : Bool), (b = true ↔ Reach (edge false W) k ab) → cSt w M' → Q (b2 b) M') : w_World_isBelow w (Int32.ofNat k) (Int32.ofNat ab) Q M := by
  have hl := hW.1.1.2.2.1
  have stOf : ∀ {st vis : List Nat} {M' : Mem}, DF A W w k st vis M' → cSt w M' := fun h => ⟨h.2.1, fun i hi => (h.2.2.1 i hi).2⟩
  have main : ∀ fuel st vis M, 2 * (W.length - vis.length) + st.length < fuel → DF A W w k st vis M → k ∈ vis → (∀ v ∈ vis, v ∈ st ∨ (v ≠ ab ∧ ∀ d, edge false W v d → d ∈ vis)) → w_World_isBelow_L23 w Q fuel (Int32.ofNat ab) (Int32.ofNat st.length) M := by
    intro fuel
    induction fuel with
    | zero => intro st vis M h; omega
    | succ fuel ih =>
      intro st vis M hm hD hkv hcl
      obtain ⟨h1, h2, h3, ⟨h4, h5⟩, h6, h7, h8⟩ := id hD
      have hvl := nodup_len h4 (fun v hv => (h6 v hv).1)
      have hsl := nodup_len h5 (fun v hv => (h6 v (h7 v hv)).1)
      unfold w_World_isBelow_L23
      by_cases e : st.length = 0
      · refine itp (le_oN (b := 0) (by omega) (by decide)) (hQ M false ?_ (stOf hD))
        have est : st = [] := List.eq_nil_of_length_eq_zero e
        refine ⟨(fun q => by cases q), fun q => ?_⟩
        have hV : ab ∈ vis := Reach.clo (V := fun v => v ∈ vis) (fun a b hav hab => by
          rcases hcl a hav with x | x
          · rw [est] at x; cases x
          · exact x.2 b hab) q hkv
        rcases hcl ab hV with x | x
        · rw [est] at x; cases x
        · exact absurd rfl x.1
      · refine itn (nle_oN (b := 0) (by omega) (by omega)) ?_
        obtain ⟨rest, at', est⟩ : ∃ rest at', st = rest ++ [at'] := ⟨st.dropLast, st.getLast (fun q => e (by rw [q]; rfl)), (List.dropLast_concat_getLast _).symm⟩
        have hrl : st.length = rest.length + 1 := by rw [est]; simp
        have em : Int32.ofNat st.length + (-1) = Int32.ofNat rest.length := by
          rw [hrl, show (-1 : Int32) = - Int32.ofNat 1 from rfl, ← Int32.sub_eq_add_neg, oN_sub (by omega), Nat.add_sub_cancel]
        have eg : gn0 st rest.length = at' := by rw [est]; simp [gn0, List.getD_eq_getElem?_getD]
        have hat : at' ∈ st := by rw [est]; simp
        have hatv := h7 at' hat
        have hatl := (h6 at' hatv).1
        rw [em, h2.2, oN_tnc (by omega), h8 rest.length (by omega), eg]
        refine ⟨(vp_oN (by omega)).mpr (by omega), ?_⟩
        by_cases c : at' = ab
        · refine itp (by rw [c]) (hQ M true ⟨fun _ => c ▸ (h6 at' hatv).2, fun _ => rfl⟩ (stOf hD))
        · refine itn (ne_oN c (by omega) (by omega)) ⟨6, ?_⟩
          have hrn : rest.Nodup := by rw [est] at h5; exact (List.nodup_append.mp h5).1
          have hrst : ∀ x ∈ rest, x ∈ st := fun x hx => by rw [est]; exact List.mem_append_left _ hx
          have hD0 : DF A W w k rest vis M := ⟨h1, h2, h3, ⟨h4, hrn⟩, h6, fun v hv => h7 v (hrst v hv), fun j hj => by
            rw [h8 j (by omega), est]
            simp [gn0, List.getD_eq_getElem?_getD, List.getElem?_append_left hj]⟩
          -- the ways from the class
          have inner : ∀ n i iv st' vis' M', ((i = 0 ∧ iv = -1) ∨ (i ≠ 0 ∧ iv = Int32.ofNat (i - 1))) → (gc W at').2.2.1.length + 1 - i < n → i ≤ (gc W at').2.2.1.length + 1 → DF A W w k st' vis' M' → k ∈ vis' → at' ∈ vis' →
              (∀ v ∈ vis', v ∈ st' ∨ v = at' ∨ (v ≠ ab ∧ ∀ d, edge false W v d → d ∈ vis')) → (∀ j d, j < i → dirW false W at' j = some d → d ∈ vis') → 2 * (W.length - vis'.length) + st'.length < fuel →
              w_World_isBelow_L49 w Q (w_World_isBelow_L23 w Q fuel) n (Int32.ofNat ab) (Int32.ofNat st'.length) (Int32.ofNat at') iv M' := by
            intro n
            induction n with
            | zero => intro i iv st' vis' M' _ h; omega
            | succ n ihn =>
              intro i iv st' vis' M' hiv hn hi hD' hkv' hav' hcl' hdone hm'
              obtain ⟨g1, g2, g3, ⟨g4, g5⟩, g6, g7, g8⟩ := id hD'
              obtain ⟨⟨p1, p2, p3⟩, ⟨q1, q2, q3⟩, q4⟩ := g1.2.2 at' hatl
              have hvl' := nodup_len g4 (fun v hv => (g6 v hv).1)
              have hsl' := nodup_len g5 (fun v hv => (g6 v (g7 v hv)).1)
              unfold w_World_isBelow_L49
              rw [oN_tnc (k := at') (by omega), g1.2.1.2.2.1, q1]
              refine ⟨(vp_oN (by omega)).mpr (by omega), ?_⟩
              have ei : i ≠ 0 → iv = Int32.ofNat (i - 1) := fun q => by
                rcases hiv with x | x
                · exact absurd x.1 q
                · exact x.2
              have ei1 : iv + 1 = Int32.ofNat i := by
                rcases hiv with x | x
                · rw [x.1, x.2]; decide
                · rw [x.2, lit32 1, oN_add, Nat.sub_add_cancel (by omega)]
              rcases Nat.lt_or_ge (gc W at').2.2.1.length i with el | el
              · have el : i = (gc W at').2.2.1.length + 1 := by omega
                rw [ei (by omega)]
                refine itp (le_oN (by omega) (by omega)) (ih st' vis' M' hm' hD' hkv' (fun v hv => ?_))
                rcases hcl' v hv with x | x | x
                · exact Or.inl x
                · refine Or.inr ⟨by rw [x]; exact c, fun d hd => ?_⟩
                  obtain ⟨j, hj, hjd⟩ := hd
                  rw [x] at hj hjd
                  exact hdone j d (by omega) hjd
                · exact Or.inr x
              · -- a way, or none
                have j91 : ∀ o, dirW false W at' i = o → w_World_isBelow_j91 w Q (w_World_isBelow_L23 w Q fuel) (w_World_isBelow_L49 w Q (w_World_isBelow_L23 w Q fuel) n) (Int32.ofNat ab) (Int32.ofNat st'.length) (Int32.ofNat at') iv (oC o) M' := by
                  intro o ho
                  have nx : ∀ st2 vis2 M2, DF A W w k st2 vis2 M2 → k ∈ vis2 → at' ∈ vis2 → (∀ v ∈ vis2, v ∈ st2 ∨ v = at' ∨ (v ≠ ab ∧ ∀ d, edge false W v d → d ∈ vis2)) → (∀ j d, j < i + 1 → dirW false W at' j = some d → d ∈ vis2) → 2 * (W.length - vis2.length) + st2.length < fuel → w_World_isBelow_j137 w Q (w_World_isBelow_L23 w Q fuel) (w_World_isBelow_L49 w Q (w_World_isBelow_L23 w Q fuel) n) (Int32.ofNat ab) (Int32.ofNat st2.length) (Int32.ofNat at') iv M2 := by
                    intro st2 vis2 M2 x1 x2 x3 x4 x5 x6
                    unfold w_World_isBelow_j137
                    rw [ei1]
                    exact ihn (i + 1) (Int32.ofNat i) st2 vis2 M2 (Or.inr ⟨by omega, rfl⟩) (by omega) (by omega) x1 x2 x3 x4 x5 x6
                  unfold w_World_isBelow_j91
                  cases o with
                  | none =>
                    refine itp (by decide) (nx st' vis' M' hD' hkv' hav' hcl' (fun j d hj hjd => ?_) hm')
                    by_cases e2 : j = i
                    · rw [e2, ho] at hjd; cases hjd
                    · exact hdone j d (by omega) hjd
                  | some d =>
                    have hed : edge false W at' d := ⟨i, by omega, ho⟩
                    have hdl := edge_lt hatl hed
                    refine itn (oN_nonneg (by omega)) ?_
                    show vp_in (Int32.ofNat d) _ ∧ _
                    rw [show oC (some d) = Int32.ofNat d from rfl, oN_tnc (by omega), g2.1]
                    refine ⟨(vp_oN (by omega)).mpr (by omega), ?_⟩
                    by_cases cv : d ∈ vis'
                    · refine itp ((g3 d (by omega)).1.mpr cv) (nx st' vis' M' hD' hkv' hav' hcl' (fun j x hj hjd => ?_) hm')
                      by_cases e2 : j = i
                      · rw [e2, ho] at hjd; cases hjd; exact cv
                      · exact hdone j x (by omega) hjd
                    · refine itn (fun q => cv ((g3 d (by omega)).1.mp q)) ⟨(vp_oN (by omega)).mpr (by omega), ?_⟩
                      have hlt : vis'.length < W.length := by
                        have := nodup_len (l := vis' ++ [d]) (n := W.length) (by
                          rw [List.nodup_append]
                          exact ⟨g4, by simp, fun a ha b hb => by simp at hb; subst hb; exact fun e => cv (e ▸ ha)⟩) (fun v hv => by
                          rcases List.mem_append.mp hv with q | q
                          · exact (g6 v q).1
                          · simp at q; rw [q]; exact hdl)
                        simp at this; omega
                      have hst51 : st'.length < 52 := by omega
                      refine ⟨by show vp_in _ (mL M' 78 w); rw [g2.2]; exact (vp_oN (by omega)).mpr hst51, _, rfl, ?_⟩
                      rw [oN_tnc (by omega), lit32 1, oN_add]
                      have hp := hD'.push hdl ((g6 at' hav').2.snoc hed) cv
                      have hlen : (st' ++ [d]).length = st'.length + 1 := by simp
                      have := nx (st' ++ [d]) (vis' ++ [d]) _ hp (List.mem_append_left _ hkv') (List.mem_append_left _ hav') (fun v hv => ?_) (fun j x hj hjd => ?_) (by simp; omega)
                      · rw [hlen] at this; exact this
                      · rcases List.mem_append.mp hv with q | q
                        · rcases hcl' v q with x | x | x
                          · exact Or.inl (List.mem_append_left _ x)
                          · exact Or.inr (Or.inl x)
                          · exact Or.inr (Or.inr ⟨x.1, fun y hy => List.mem_append_left _ (x.2 y hy)⟩)
                        · exact Or.inl (List.mem_append_right _ q)
                      · by_cases e2 : j = i
                        · rw [e2, ho] at hjd; cases hjd; simp
                        · exact List.mem_append_left _ (hdone j x (by omega) hjd)
                by_cases e0 : i = 0
                · have eiv : iv = -1 := by
                    rcases hiv with x | x
                    · exact x.2
                    · exact absurd e0 x.1
                  subst e0
                  refine itn (fun q => ?_) (itn (by rw [eiv]; decide) (c_up g1 hatl (j91 _ rfl)))
                  rw [eiv, Int32.le_iff_toInt_le, oN_toInt (by omega)] at q
                  have : (-1 : Int32).toInt = -1 := by decide
                  omega
                · rw [ei e0] at j91 ⊢
                  refine itn (nle_oN (by omega) (by omega)) (itp (oN_zero_le (by omega)) ?_)
                  rw [lit32 4, oN_mul, oN_add, oN_tnc (by omega), g1.2.1.2.1, (q3 (i - 1) (by omega)).1]
                  refine ⟨(vp_oN (by omega)).mpr (by omega), c_find g1.1 (q3 (i - 1) (by omega)).2 (j91 _ ?_)⟩
                  unfold dirW; rw [if_neg e0]
          have := inner 6 0 (-1) rest vis M (Or.inl ⟨rfl, rfl⟩) (by have := (h1.2.2 at' hatl).2.1.2.1; omega) (by omega) hD0 hkv hatv (fun v hv => ?_) (fun j d hj => by omega) (by omega)
          · exact this
          · rcases hcl v hv with x | x
            · rw [est] at x
              rcases List.mem_append.mp x with y | y
              · exact Or.inl y
              · simp at y; exact Or.inr (Or.inl y)
            · exact Or.inr (Or.inr x)
  unfold w_World_isBelow
  refine mf_w_World_nextStamp (Q := fun M1 => (mL M1 77 w = 51 ∧ mL M1 78 w = 52) ∧ (∀ i, i < 51 → mI M1 77 w i ≠ mI M1 5 w 61 ∧ (mI M1 77 w i).toUInt32.toNat ≤ (mI M1 5 w 61).toUInt32.toNat)) (fun M1 hf hp => ?_) (c_nextStamp hS (fun M' a b => ⟨a, b⟩))
  obtain ⟨⟨a1, a2⟩, a3⟩ := hp
  have hW1 : cCl A W w M1 := by
    obtain ⟨⟨⟨x1, x2, x3, x4⟩, x5⟩, ⟨y1, y2, y3, y4⟩, y5⟩ := hW
    refine ⟨⟨⟨(hf.I (f := 5) (k := 2) rfl w).trans x1, (hf.L (f := 36) rfl w).trans x2, x3, x4⟩, fun c hc => by rw [hf.Ia (f := 36) rfl rfl]; exact x5 c hc⟩, ⟨(hf.L (f := 37) rfl w).trans y1, (hf.L (f := 38) rfl w).trans y2, (hf.L (f := 39) rfl w).trans y3, (hf.L (f := 40) rfl w).trans y4⟩, fun c hc => ?_⟩
    obtain ⟨z1, z2, z3⟩ := y5 c hc
    exact ⟨⟨(hf.Ia (f := 37) rfl rfl w c).trans z1.1, z1.2⟩, ⟨(hf.Ia (f := 39) rfl rfl w c).trans z2.1, z2.2.1, fun i hi => by rw [hf.Ia (f := 38) rfl rfl]; exact z2.2.2 i hi⟩, (hf.Ia (f := 40) rfl rfl w c).trans z3⟩
  rw [oN_tnc (by omega), a1]
  have hD0 : DF A W w k [] [] M1 := ⟨hW1, ⟨a1, a2⟩, fun i hi => ⟨⟨fun q => absurd q (a3 i hi).1, (fun q => absurd q (by simp))⟩, (a3 i hi).2⟩, ⟨List.nodup_nil, List.nodup_nil⟩, (fun v hv => absurd hv (by simp)), (fun v hv => absurd hv (by simp)), fun j hj => absurd hj (Nat.not_lt_zero j)⟩
  have hD1 := hD0.push hk (Reach.rf _ _) (by simp)
  refine ⟨(vp_oN (by omega)).mpr (by omega), by show vp_in 0 (mL M1 78 w); rw [a2]; exact (vp_oN (a := 0) (by omega)).mpr (by omega), _, rfl, 2 * W.length + 3, ?_⟩
  have := main (2 * W.length + 3) [k] [k] _ (by simp; omega) hD1 (by simp) (fun v hv => Or.inl hv)
  exact this

/-! B: above and below in the twin: classes as bits -/
def bs (m : Int64) (c : Nat) : Bool := m.toBitVec.getLsbD c
theorem sh64 {c : Nat} (h : c < 64) : ((Int32.ofNat c).toInt64 &&& 63) = Int64.ofNat c := by
  have e1 : (Int32.ofNat c).toInt64 = Int64.ofNat c := by
    apply Int64.toInt_inj.mp
    rw [Int32.toInt_toInt64, oN_toInt (by omega), Int64.toInt_ofNat_of_lt (by simp; omega)]
  rw [e1]
  apply Int64.toBitVec_inj.mp
  apply BitVec.eq_of_toNat_eq
  rw [Int64.toBitVec_and, BitVec.toNat_and]
  show (BitVec.ofNat 64 c).toNat &&& (63#64).toNat = (BitVec.ofNat 64 c).toNat
  rw [BitVec.toNat_ofNat, Nat.mod_eq_of_lt (by omega), show (63#64).toNat = 2 ^ 6 - 1 by decide, Nat.and_two_pow_sub_one_eq_mod, Nat.mod_eq_of_lt (by omega)]
theorem bv64 {c : Nat} (h : c < 64) : ((Int64.ofNat c).toBitVec.smod 64) = BitVec.ofNat 64 c := by
  have : ∀ c : Fin 64, ((Int64.ofNat c.val).toBitVec.smod 64) = BitVec.ofNat 64 c.val := by decide
  exact this ⟨c, h⟩
theorem bs_or (a b : Int64) (c : Nat) : bs (a ||| b) c = (bs a c || bs b c) := by
  unfold bs; rw [Int64.toBitVec_or, BitVec.getLsbD_or]
theorem bs_zero (c : Nat) : bs 0 c = false := by unfold bs; simp
theorem bs_one {p : Nat} (hp : p < 64) (c : Nat) (hc : c < 64) : bs ((1 : Int64) <<< ((Int32.ofNat p).toInt64 &&& 63)) c = decide (c = p) := by
  unfold bs
  rw [sh64 hp, Int64.toBitVec_shiftLeft, bv64 hp, BitVec.shiftLeft_eq', BitVec.toNat_ofNat, Nat.mod_eq_of_lt (by omega), BitVec.getLsbD_shiftLeft]
  have e1 : (1 : Int64).toBitVec = 1#64 := by decide
  rw [e1, BitVec.getLsbD_one]
  by_cases c1 : c = p
  · subst c1; simp [hc]
  · rw [decide_eq_false c1]
    by_cases c2 : c < p
    · simp [c2]
    · have : ¬ c - p = 0 := by omega
      simp [this]
theorem bs_test {m : Int64} {c : Nat} (hc : c < 64) : lg_cmp ((m >>> ((Int32.ofNat c).toInt64 &&& 63)) &&& (1 : Int64)) (1 : Int64) = 0 ↔ bs m c = true := by
  rw [lg_cmp0, sh64 hc]
  have key : ((m >>> Int64.ofNat c) &&& 1) = if bs m c then 1 else 0 := by
    apply Int64.toBitVec_inj.mp
    rw [Int64.toBitVec_and, Int64.toBitVec_shiftRight, bv64 hc]
    have e1 : (1 : Int64).toBitVec = 1#64 := by decide
    ext i hi
    rw [BitVec.getElem_and]
    have e2 : (Int64.toBitVec 1)[i] = decide (i = 0) := by
      rw [← BitVec.getLsbD_eq_getElem, e1, BitVec.getLsbD_one]; simp [hi]
    rw [e2]
    by_cases ci : i = 0
    · subst ci
      have : (m.toBitVec.sshiftRight' (BitVec.ofNat 64 c))[0] = bs m c := by
        rw [← BitVec.getLsbD_eq_getElem, BitVec.getLsbD_sshiftRight', BitVec.toNat_ofNat, Nat.mod_eq_of_lt (by omega)]
        simp [hc, bs]
      rw [this]
      cases bs m c <;> simp
    · have : decide (i = 0) = false := by simp [ci]
      rw [this, Bool.and_false]
      cases bs m c with
      | true =>
        show false = (Int64.toBitVec 1)[i]
        rw [e2, this]
      | false =>
        show false = (Int64.toBitVec 0)[i]
        simp
  rw [key]
  cases bs m c with
  | true => simp
  | false => simp
theorem bs_ext {a b : Int64} (h : ∀ c, c < 64 → bs a c = bs b c) : a = b := by
  apply Int64.toBitVec_inj.mp
  apply BitVec.eq_of_getLsbD_eq
  intro i hi
  exact h i hi
section
variable {A : List Nm} {W : List Cls} {w : Nat} {M : Mem}
theorem ct_findNeg {x : Int32} {Q : Int32 → Mem → Prop} (hw : mR M 11 0 45 = some (12, w)) (h : tNm A W w M) (hx : x < 0) (hQ : Q (-2) M) : w_Model_classOf 0 x Q M := by
  obtain ⟨⟨h1, h2, h3, h4⟩, h5⟩ := h
  have main : ∀ d k, W.length - k < d → k ≤ W.length → w_Model_classOf_L2 0 Q d x (Int32.ofNat k) M := by
    intro d
    induction d with
    | zero => intro k h; omega
    | succ d ih =>
      intro k hd hk
      unfold w_Model_classOf_L2
      refine ⟨w, hw, ?_⟩
      rw [h1]
      by_cases e : k = W.length
      · exact itp (le_oN (by omega) (by omega)) hQ
      · refine itn (nle_oN (by omega) (by omega)) ⟨w, hw, ?_⟩
        rw [oN_tnc (by omega), h2]
        refine ⟨(vp_oN (by omega)).mpr (by omega), ?_⟩
        obtain ⟨e1, e2⟩ := h5 k (by omega)
        have := List.idxOf_lt_length_iff.mpr e2
        rw [e1]
        refine itn (fun q => ?_) ?_
        · rw [← q] at hx; exact oN_nonneg (by omega) hx
        · rw [lit32 1, oN_add]; exact ih (k + 1) (by omega) (by omega)
  unfold w_Model_classOf
  exact ⟨W.length + 1, main _ 0 (by omega) (by omega)⟩
theorem ct_findP {par : Nm} {Q : Int32 → Mem → Prop} (hw : mR M 11 0 45 = some (12, w)) (h : tCl A W w M) (hp : par = [] ∨ par ∈ A) (hQ : Q (oC (fnd W par)) M) : w_Model_classOf 0 (pcT A par) Q M := by
  unfold pcT
  by_cases e : par = []
  · rw [if_pos e]
    rw [e, fnd_nil (fun c hc => (h.2.2 c hc).1.2.2)] at hQ
    exact ct_findNeg hw h.1 (by decide) hQ
  · rw [if_neg e]
    exact ct_classOf hw h.1 (hp.resolve_left e) hQ
theorem ct_parentOf {c : Nat} {Q : Int32 → Mem → Prop} (hw : mR M 11 0 45 = some (12, w)) (h : tCl A W w M) (hc : c < W.length) (hQ : Q (oC (upW W c)) M) : w_Model_parentOf 0 (Int32.ofNat c) Q M := by
  have hl := h.1.1.2.2.1
  unfold w_Model_parentOf
  unfold upW at hQ
  by_cases e : c = 0
  · rw [if_pos e] at hQ
    exact itp (by rw [e]; rfl) hQ
  · rw [if_neg e] at hQ
    refine itn (ne_oN (b := 0) e (by omega) (by omega)) ⟨w, hw, ?_⟩
    rw [oN_tnc (by omega), h.2.1.2.2.2, (h.2.2 c hc).2.2]
    refine ⟨(vp_oN (by omega)).mpr (by omega), ?_⟩
    unfold isFc at hQ
    by_cases e2 : (gc W c).2.2.2.1 &&& 4 = 0
    · rw [if_neg (by rw [decide_eq_false (fun q => q e2)]; decide)] at hQ
      refine itp e2 ⟨w, hw, ?_⟩
      rw [h.2.1.1, (h.2.2 c hc).1.1]
      exact ⟨(vp_oN (by omega)).mpr (by omega), ct_findP hw h (h.2.2 c hc).1.2.1 hQ⟩
    · rw [if_pos (decide_eq_true e2)] at hQ
      exact itn e2 hQ
/-- the mask of what is found, or of nothing -/
def bO (o : Option Nat) (c : Nat) : Bool := decide (o = some c)
theorem ct_directs {c : Nat} {told : Bool} {Q : Int64 → Mem → Prop} (hw : mR M 11 0 45 = some (12, w)) (h : tCl A W w M) (hc : c < W.length) (hQ : ∀ m, (∀ d, d < 64 → (bs m d = true ↔ edge told W c d)) → Q m M) : w_Model_directs 0 (Int32.ofNat c) (b2 told) Q M := by
  have hl := h.1.1.2.2.1
  obtain ⟨⟨p1, p2, p3⟩, ⟨q1, q2, q3⟩, q4⟩ := h.2.2 c hc
  have loop : ∀ n i m, (gc W c).2.2.1.length - i < n → i ≤ (gc W c).2.2.1.length → (∀ d, d < 64 → (bs m d = true ↔ ∃ j, j ≤ i ∧ dirW told W c j = some d)) → w_Model_directs_L42 0 Q n (Int32.ofNat c) m (Int32.ofNat i) M := by
    intro n
    induction n with
    | zero => intro i m h; omega
    | succ n ih =>
      intro i m hn hi hm
      unfold w_Model_directs_L42
      refine ⟨w, hw, ?_⟩
      rw [oN_tnc (by omega), h.2.1.2.2.1, q1]
      refine ⟨(vp_oN (by omega)).mpr (by omega), ?_⟩
      by_cases e : i = (gc W c).2.2.1.length
      · refine itp (le_oN (by omega) (by omega)) (hQ m (fun d hd => (hm d hd).trans ?_))
        rw [e]; exact Iff.rfl
      · refine itn (nle_oN (by omega) (by omega)) ⟨w, hw, ?_⟩
        rw [lit32 4, oN_mul, oN_add, oN_tnc (by omega), h.2.1.2.1, (q3 i (by omega)).1]
        refine ⟨(vp_oN (by omega)).mpr (by omega), ct_classOf hw h.1 (q3 i (by omega)).2 ?_⟩
        have hdir : dirW told W c (i + 1) = fnd W (gf (gc W c) i) := by unfold dirW; rw [if_neg (by omega), Nat.add_sub_cancel]
        have nx : ∀ x : Int64, (∀ d, d < 64 → (bs x d = true ↔ fnd W (gf (gc W c) i) = some d)) → w_Model_directs_j91 0 Q (w_Model_directs_L42 0 Q n) (Int32.ofNat c) (Int32.ofNat i) x m M := fun x hx => by
          unfold w_Model_directs_j91
          rw [lit32 1, oN_add]
          refine ih (i + 1) _ (by omega) (by omega) (fun d hd => ?_)
          rw [bs_or, Bool.or_eq_true, hm d hd, hx d hd]
          constructor
          · rintro (⟨j, hj, hjd⟩ | q)
            · exact ⟨j, by omega, hjd⟩
            · exact ⟨i + 1, Nat.le_refl _, hdir.trans q⟩
          · rintro ⟨j, hj, hjd⟩
            by_cases ej : j = i + 1
            · right; rw [← hdir, ← ej]; exact hjd
            · left; exact ⟨j, by omega, hjd⟩
        cases ho : fnd W (gf (gc W c) i) with
        | none =>
          refine itp (by decide) (nx 0 (fun d hd => ?_))
          rw [bs_zero, ho]; simp
        | some k =>
          have hkl := fnd_lt ho
          refine itn (oN_nonneg (by omega)) (nx _ (fun d hd => ?_))
          show bs ((1 : Int64) <<< ((Int32.ofNat k).toInt64 &&& 63)) d = true ↔ _
          rw [bs_one (by omega) d hd, ho]; simp [eq_comm]
  have j25 : ∀ o, dirW told W c 0 = o → (∀ d, o = some d → d < W.length) → w_Model_directs_j25 0 Q (Int32.ofNat c) (oC o) M := by
    intro o ho hlt
    have fin : ∀ x : Int64, (∀ d, d < 64 → (bs x d = true ↔ o = some d)) → w_Model_directs_j37 0 Q (Int32.ofNat c) x M := fun x hx => by
      unfold w_Model_directs_j37
      refine ⟨(gc W c).2.2.1.length + 1, loop _ 0 x (by omega) (by omega) (fun d hd => (hx d hd).trans ⟨fun q => ⟨0, Nat.le_refl _, ho.trans q⟩, ?_⟩)⟩
      rintro ⟨j, hj, hjd⟩
      have : j = 0 := by omega
      rw [this, ho] at hjd; exact hjd
    unfold w_Model_directs_j25
    cases o with
    | none => exact itp (by decide) (fin 0 (fun d hd => by rw [bs_zero]; simp))
    | some k =>
      have hkl := hlt k rfl
      refine itn (oN_nonneg (by omega)) (fin _ (fun d hd => ?_))
      show bs ((1 : Int64) <<< ((Int32.ofNat k).toInt64 &&& 63)) d = true ↔ _
      rw [bs_one (by omega) d hd]; simp [eq_comm]
  unfold w_Model_directs
  cases told with
  | false =>
    refine itp rfl (ct_parentOf hw h hc (j25 _ ?_ (fun d hd => up_lt hc hd)))
    unfold dirW; rw [if_pos rfl, if_neg (by decide)]
  | true =>
    refine itn (by decide) ⟨w, hw, ?_⟩
    rw [oN_tnc (by omega), h.2.1.1, p1]
    refine ⟨(vp_oN (by omega)).mpr (by omega), ct_findP hw h p2 (j25 _ ?_ (fun d hd => fnd_lt hd))⟩
    unfold dirW; rw [if_pos rfl, if_pos rfl]
end

def cnt (m : Int64) : Nat := (List.range 64).countP (bs m)
theorem cnt_le (m : Int64) : cnt m ≤ 64 := by
  have := List.countP_le_length (p := bs m) (l := List.range 64)
  simpa [cnt] using this
theorem cnt_lt {a b : Int64} (h : ∀ c, c < 64 → bs a c = true → bs b c = true) {c : Nat} (hc : c < 64) (h1 : bs a c = false) (h2 : bs b c = true) : cnt a < cnt b := by
  have key : ∀ l : List Nat, (∀ x ∈ l, bs a x = true → bs b x = true) → c ∈ l → l.countP (bs a) < l.countP (bs b) := by
    intro l
    induction l with
    | nil => intro _ h; cases h
    | cons x l ih =>
      intro hl hm
      have hle : l.countP (bs a) ≤ l.countP (bs b) := by
        clear ih hm
        induction l with
        | nil => simp
        | cons y l ih2 =>
          have := ih2 (fun z hz => hl z (by
            rcases List.mem_cons.mp hz with e | e
            · rw [e]; exact List.mem_cons_self
            · exact List.mem_cons_of_mem _ (List.mem_cons_of_mem _ e)))
          rw [List.countP_cons, List.countP_cons]
          have hy := hl y (by simp)
          by_cases q : bs a y = true
          · rw [if_pos q, if_pos (hy q)]; omega
          · rw [if_neg q]; split <;> omega
      rw [List.countP_cons, List.countP_cons]
      rcases List.mem_cons.mp hm with e | e
      · subst e
        rw [if_neg (by rw [h1]; decide), if_pos h2]; omega
      · have := ih (fun z hz => hl z (List.mem_cons_of_mem _ hz)) e
        have hx := hl x List.mem_cons_self
        by_cases q : bs a x = true
        · rw [if_pos q, if_pos (hx q)]; omega
        · rw [if_neg q]; split <;> omega
  exact key _ (fun x hx => h x (List.mem_range.mp hx)) (List.mem_range.mpr hc)
theorem ct_upFrom {A : List Nm} {W : List Cls} {w : Nat} {M : Mem} {told : Bool} {m0 : Int64} {Q : Int64 → Mem → Prop} (hw : mR M 11 0 45 = some (12, w)) (h : tCl A W w M) (h0 : ∀ d, d < 64 → bs m0 d = true → d < W.length)
    (hQ : ∀ m, (∀ d, d < 64 → (bs m d = true ↔ ∃ v, v < 64 ∧ bs m0 v = true ∧ Reach (edge told W) v d)) → Q m M) : w_Model_upFrom 0 m0 (b2 told) Q M := by
  have hl := h.1.1.2.2.1
  have main : ∀ n m (more : Bool), (if more then 64 - cnt m + 2 else 1) ≤ n → (∀ d, d < 64 → bs m d = true → d < W.length ∧ ∃ v, v < 64 ∧ bs m0 v = true ∧ Reach (edge told W) v d) → (∀ d, d < 64 → bs m0 d = true → bs m d = true) →
      (more = false → ∀ v d, v < 64 → bs m v = true → edge told W v d → bs m d = true) → w_Model_upFrom_L6 0 Q n (b2 told) m (b2 more) M := by
    intro n
    induction n with
    | zero => intro m more hn; cases more <;> simp at hn
    | succ n ih =>
      intro m more hn hm hb hcl
      unfold w_Model_upFrom_L6
      cases more with
      | false =>
        refine itp rfl (hQ m (fun d hd => ⟨fun q => (hm d hd q).2, ?_⟩))
        rintro ⟨v, hv, hv0, hr⟩
        have : d < 64 ∧ bs m d = true := Reach.clo (V := fun x => x < 64 ∧ bs m x = true) (fun a b ha hab => by
          have hal := (hm a ha.1 ha.2).1
          have hbl := edge_lt hal hab
          exact ⟨by omega, hcl rfl a b ha.1 ha.2 hab⟩) hr ⟨hv, hb v hv hv0⟩
        exact this.2
      | true =>
        refine itn (by decide) ⟨W.length + 1, ?_⟩
        have hc64 := cnt_le m
        simp only [if_true] at hn
        have loop : ∀ e k m7, W.length - k < e → k ≤ W.length → (∀ d, d < 64 → (bs m7 d = true ↔ bs m d = true ∨ ∃ c, c < k ∧ bs m c = true ∧ edge told W c d)) → w_Model_upFrom_L18 0 Q (w_Model_upFrom_L6 0 Q n) e (b2 told) m m7 (Int32.ofNat k) M := by
          intro e
          induction e with
          | zero => intro k m7 h; omega
          | succ e ihe =>
            intro k m7 he hk h7
            unfold w_Model_upFrom_L18
            refine ⟨w, hw, ?_⟩
            rw [h.1.1.1]
            by_cases ek : k = W.length
            · refine itp (le_oN (by omega) (by omega)) ?_
              have hsub : ∀ c, c < 64 → bs m c = true → bs m7 c = true := fun c hc q => (h7 c hc).mpr (Or.inl q)
              have h7' : ∀ d, d < 64 → bs m7 d = true → d < W.length ∧ ∃ v, v < 64 ∧ bs m0 v = true ∧ Reach (edge told W) v d := fun d hd q => by
                rcases (h7 d hd).mp q with x | ⟨c, hc, hcm, hcd⟩
                · exact hm d hd x
                · obtain ⟨hcl', v, hv, hv0, hr⟩ := hm c (by omega) hcm
                  exact ⟨edge_lt hcl' hcd, v, hv, hv0, hr.snoc hcd⟩
              by_cases eq : m7 = m
              · refine itp (lg_cmp0.mpr eq) ?_
                unfold w_Model_upFrom_j77
                refine ih m7 false (by simp; omega) h7' (fun d hd q => hsub d hd (hb d hd q)) (fun _ v d hv hvm hvd => ?_)
                rw [eq] at hvm
                have hvl := (hm v hv hvm).1
                have hdl := edge_lt hvl hvd
                exact (h7 d (by omega)).mpr (Or.inr ⟨v, by omega, hvm, hvd⟩)
              · refine itn (fun q => eq (lg_cmp0.mp q)) ?_
                unfold w_Model_upFrom_j77
                have hex : ∃ c, c < 64 ∧ bs m c = false ∧ bs m7 c = true := by
                  apply Classical.byContradiction
                  intro q
                  apply eq
                  refine bs_ext (fun c hc => ?_)
                  cases x : bs m c with
                  | true => exact hsub c hc x
                  | false =>
                    cases y : bs m7 c with
                    | false => rfl
                    | true => exact absurd ⟨c, hc, x, y⟩ q
                obtain ⟨c, hc, x, y⟩ := hex
                have := cnt_lt hsub hc x y
                have := cnt_le m7
                exact ih m7 true (by simp only [if_true]; omega) h7' (fun d hd q => hsub d hd (hb d hd q)) (fun q => by cases q)
            · refine itn (nle_oN (by omega) (by omega)) ?_
              have nx : ∀ x : Int64, (∀ d, d < 64 → (bs x d = true ↔ bs m k = true ∧ edge told W k d)) → w_Model_upFrom_j55 0 Q (w_Model_upFrom_L6 0 Q n) (w_Model_upFrom_L18 0 Q (w_Model_upFrom_L6 0 Q n) e) (b2 told) m (Int32.ofNat k) x m7 M := fun x hx => by
                unfold w_Model_upFrom_j55
                rw [lit32 1, oN_add]
                refine ihe (k + 1) _ (by omega) (by omega) (fun d hd => ?_)
                rw [bs_or, Bool.or_eq_true, h7 d hd, hx d hd]
                constructor
                · rintro ((q | ⟨c, hc, q1, q2⟩) | ⟨q1, q2⟩)
                  · exact Or.inl q
                  · exact Or.inr ⟨c, by omega, q1, q2⟩
                  · exact Or.inr ⟨k, by omega, q1, q2⟩
                · rintro (q | ⟨c, hc, q1, q2⟩)
                  · exact Or.inl (Or.inl q)
                  · by_cases e2 : c = k
                    · subst e2; exact Or.inr ⟨q1, q2⟩
                    · exact Or.inl (Or.inr ⟨c, by omega, q1, q2⟩)
              by_cases cb : bs m k = true
              · refine itp ((bs_test (by omega)).mpr cb) (ct_directs hw h (by omega) (fun x hx => nx x (fun d hd => ?_)))
                rw [hx d hd]; simp [cb]
              · refine itn (fun q => cb ((bs_test (by omega)).mp q)) (nx 0 (fun d hd => ?_))
                rw [bs_zero]; simp [cb]
        exact loop _ 0 m (by omega) (by omega) (fun d hd => ⟨Or.inl, fun q => q.elim id (fun ⟨c, hc, _⟩ => by omega)⟩)
  unfold w_Model_upFrom
  exact ⟨66, main 66 m0 true (by simp only [if_true]; omega) (fun d hd q => ⟨h0 d hd q, d, hd, q, Reach.rf _ _⟩) (fun d hd q => q) (fun q => by cases q)⟩
theorem ct_isBelow {A : List Nm} {W : List Cls} {w k ab : Nat} {M : Mem} {Q : Int32 → Mem → Prop} (hw : mR M 11 0 45 = some (12, w)) (h : tCl A W w M) (hk : k < W.length) (ha : ab < 51)
    (hQ : ∀ (b : Bool), (b = true ↔ Reach (edge false W) k ab) → Q (b2 b) M) : w_Model_isBelow 0 (Int32.ofNat k) (Int32.ofNat ab) Q M := by
  have hl := h.1.1.2.2.1
  unfold w_Model_isBelow
  by_cases e : k = ab
  · exact itp (by rw [e]) (hQ true ⟨fun _ => e ▸ Reach.rf _ _, fun _ => rfl⟩)
  · refine itn (ne_oN e (by omega) (by omega)) ?_
    refine ct_upFrom (told := false) hw h (fun d hd q => ?_) (fun m hm => ?_)
    · rw [bs_one (by omega) d hd] at q
      rw [of_decide_eq_true q]; exact hk
    · have hs : (∃ v, v < 64 ∧ bs ((1 : Int64) <<< ((Int32.ofNat k).toInt64 &&& 63)) v = true ∧ Reach (edge false W) v ab) ↔ Reach (edge false W) k ab := by
        constructor
        · rintro ⟨v, hv, q, r⟩
          rw [bs_one (by omega) v hv] at q
          rw [← of_decide_eq_true q]; exact r
        · intro r
          exact ⟨k, by omega, by rw [bs_one (by omega) k (by omega)]; simp, r⟩
      have hb := (hm ab (by omega)).trans hs
      by_cases c : bs m ab = true
      · exact itp ((bs_test (by omega)).mpr c) (hQ true ⟨fun _ => hb.mp c, fun _ => rfl⟩)
      · exact itn (fun q => c ((bs_test (by omega)).mp q)) (hQ false ⟨(fun q => by cases q), fun q => absurd (hb.mpr q) c⟩)

/-- a way up comes back -/
def ring (W : List Cls) (k : Nat) : Prop := ∃ d, edge true W k d ∧ Reach (edge true W) d k
theorem ring_of {W : List Cls} {k a : Nat} (h : Reach (edge true W) k a) (h1 : edge true W a k) : ring W k := by
  obtain ⟨n, h⟩ := h
  cases n with
  | zero => exact ⟨k, (show k = a from h) ▸ h1, Reach.rf _ _⟩
  | succ n =>
    obtain ⟨d, h2, h3⟩ := h
    exact ⟨d, h2, n + 1, h3.snoc h1⟩
/-- while one looks for a way back -/
def DB (A : List Nm) (W : List Cls) (w k0 : Nat) (st vis : List Nat) (M : Mem) : Prop :=
  cCl A W w M ∧ (mL M 515 0 = 51 ∧ mL M 97 0 = 255) ∧ (∀ i, i < 51 → (mI M 515 0 i ≠ 0 ↔ i ∈ vis)) ∧ (vis.Nodup ∧ st.Nodup) ∧ (∀ v ∈ vis, v < W.length ∧ v ≠ k0 ∧ Reach (edge true W) k0 v) ∧ (∀ v ∈ st, v ∈ vis ∨ v = k0) ∧ ∀ j, j < st.length → mI M 97 0 j = Int32.ofNat (gn0 st j)
theorem DB.push {A : List Nm} {W : List Cls} {w k0 d : Nat} {st vis : List Nat} {M : Mem} (h : DB A W w k0 st vis M) (hd : d < W.length) (hk : d ≠ k0) (hr : Reach (edge true W) k0 d) (hn : d ∉ vis) : DB A W w k0 (st ++ [d]) (vis ++ [d]) (sI (sI M 515 0 d ((1 : Int32) &&& 1)) 97 0 st.length (Int32.ofNat d)) := by
  obtain ⟨h1, h2, h3, ⟨h4, h5⟩, h6, h7, h8⟩ := h
  have hl := h1.1.1.2.2.1
  refine ⟨h1, h2, fun i hi => ?_, ⟨?_, ?_⟩, fun v hv => ?_, fun v hv => ?_, fun j hj => ?_⟩
  · have e1 : mI (sI (sI M 515 0 d ((1 : Int32) &&& 1)) 97 0 st.length (Int32.ofNat d)) 515 0 i = if i = d then 1 else mI M 515 0 i := by
      rw [mI_sI, if_neg (fun q => absurd q.1 (by decide)), mI_sI]
      by_cases c : i = d
      · rw [if_pos ⟨rfl, rfl, c⟩, if_pos c]; rfl
      · rw [if_neg (fun q => c q.2.2), if_neg c]
    rw [e1]
    by_cases c : i = d
    · rw [if_pos c]; exact ⟨fun _ => by rw [c]; simp, fun _ => by decide⟩
    · rw [if_neg c]
      refine (h3 i hi).trans ?_
      simp [c]
  · rw [List.nodup_append]
    exact ⟨h4, by simp, fun a ha b hb => by simp at hb; subst hb; exact fun e => hn (e ▸ ha)⟩
  · rw [List.nodup_append]
    refine ⟨h5, by simp, fun a ha b hb => by
      simp at hb; subst hb
      intro e
      rcases h7 a ha with q | q
      · exact hn (e ▸ q)
      · exact hk (e.symm.trans q)⟩
  · rcases List.mem_append.mp hv with q | q
    · exact h6 v q
    · simp at q; rw [q]; exact ⟨hd, hk, hr⟩
  · rcases List.mem_append.mp hv with q | q
    · rcases h7 v q with x | x
      · exact Or.inl (List.mem_append_left _ x)
      · exact Or.inr x
    · exact Or.inl (List.mem_append_right _ q)
  · rw [List.length_append, List.length_singleton] at hj
    rw [mI_sI]
    by_cases c : j = st.length
    · rw [if_pos ⟨rfl, rfl, c⟩, c]
      simp [gn0, List.getD_eq_getElem?_getD]
    · rw [if_neg (fun q => c q.2.2), mI_sI, if_neg (fun q => absurd q.1 (by decide)), h8 j (by omega)]
      simp [gn0, List.getD_eq_getElem?_getD, List.getElem?_append_left (show j < st.length by omega)]
set_option maxRecDepth 4000 in
theorem c_comesBack {A : List Nm} {W : List Cls} {w k : Nat} {Q : Int32 → Mem → Prop} {M : Mem} (hW : cCl A W w M) (hS : mL M 515 0 = 51 ∧ mL M 97 0 = 255) (hk : k < W.length)
    (hQ : ∀ M' (b : Bool), (b = true ↔ ring W k) → Q (b2 b) M') : w_World_comesBack w (Int32.ofNat k) Q M := by
  have hl := hW.1.1.2.2.1
  have main : ∀ fuel st vis M, 2 * (W.length - vis.length) + st.length < fuel → DB A W w k st vis M → (∀ v, v ∈ vis ∨ v = k → v ∈ st ∨ ∀ d, edge true W v d → d ≠ k ∧ d ∈ vis) → w_World_comesBack_L28 w Q fuel (Int32.ofNat k) 0 0 (Int32.ofNat st.length) M := by
    intro fuel
    induction fuel with
    | zero => intro st vis M h; omega
    | succ fuel ih =>
      intro st vis M hm hD hcl
      obtain ⟨h1, h2, h3, ⟨h4, h5⟩, h6, h7, h8⟩ := id hD
      have stl : ∀ v ∈ st, v < W.length := fun v hv => (h7 v hv).elim (fun q => (h6 v q).1) (fun q => q ▸ hk)
      have str : ∀ v ∈ st, Reach (edge true W) k v := fun v hv => (h7 v hv).elim (fun q => (h6 v q).2.2) (fun q => q ▸ Reach.rf _ _)
      have hvl := nodup_len h4 (fun v hv => (h6 v hv).1)
      have hsl := nodup_len h5 stl
      unfold w_World_comesBack_L28
      by_cases e : st.length = 0
      · refine itp (le_oN (b := 0) (by omega) (by decide)) (hQ M false ⟨(fun q => by cases q), fun q => ?_⟩)
        have est : st = [] := List.eq_nil_of_length_eq_zero e
        have clo : ∀ v, v ∈ vis ∨ v = k → ∀ d, edge true W v d → d ≠ k ∧ d ∈ vis := fun v hv => by
          rcases hcl v hv with x | x
          · rw [est] at x; cases x
          · exact x
        obtain ⟨d, hd, hr⟩ := q
        have hd1 := clo k (Or.inr rfl) d hd
        have : k ∈ vis ∧ k ≠ k := Reach.clo (V := fun v => v ∈ vis ∧ v ≠ k) (fun a b ha hab => ⟨(clo a (Or.inl ha.1) b hab).2, (clo a (Or.inl ha.1) b hab).1⟩) hr ⟨hd1.2, hd1.1⟩
        exact absurd rfl this.2
      · refine itn (nle_oN (b := 0) (by omega) (by omega)) ?_
        obtain ⟨rest, at', est⟩ : ∃ rest at', st = rest ++ [at'] := ⟨st.dropLast, st.getLast (fun q => e (by rw [q]; rfl)), (List.dropLast_concat_getLast _).symm⟩
        have hrl : st.length = rest.length + 1 := by rw [est]; simp
        have em : Int32.ofNat st.length + (-1) = Int32.ofNat rest.length := by
          rw [hrl, show (-1 : Int32) = - Int32.ofNat 1 from rfl, ← Int32.sub_eq_add_neg, oN_sub (by omega), Nat.add_sub_cancel]
        have eg : gn0 st rest.length = at' := by rw [est]; simp [gn0, List.getD_eq_getElem?_getD]
        have hat : at' ∈ st := by rw [est]; simp
        have hatl := stl at' hat
        have hatr := str at' hat
        rw [em, h2.2, oN_tnc (by omega), h8 rest.length (by omega), eg]
        refine ⟨(vp_oN (by omega)).mpr (by omega), 6, ?_⟩
        have hrn : rest.Nodup := by rw [est] at h5; exact (List.nodup_append.mp h5).1
        have hrst : ∀ x ∈ rest, x ∈ st := fun x hx => by rw [est]; exact List.mem_append_left _ hx
        have hD0 : DB A W w k rest vis M := ⟨h1, h2, h3, ⟨h4, hrn⟩, h6, fun v hv => h7 v (hrst v hv), fun j hj => by
          rw [h8 j (by omega), est]
          simp [gn0, List.getD_eq_getElem?_getD, List.getElem?_append_left hj]⟩
        have inner : ∀ n i iv st' vis' M', ((i = 0 ∧ iv = -1) ∨ (i ≠ 0 ∧ iv = Int32.ofNat (i - 1))) → (gc W at').2.2.1.length + 1 - i < n → i ≤ (gc W at').2.2.1.length + 1 → DB A W w k st' vis' M' →
            (∀ v, v ∈ vis' ∨ v = k → v ∈ st' ∨ v = at' ∨ ∀ d, edge true W v d → d ≠ k ∧ d ∈ vis') → (∀ j d, j < i → dirW true W at' j = some d → d ≠ k ∧ d ∈ vis') → 2 * (W.length - vis'.length) + st'.length < fuel →
            w_World_comesBack_L45 w Q (w_World_comesBack_L28 w Q fuel) n (Int32.ofNat k) 0 0 (Int32.ofNat st'.length) (Int32.ofNat at') iv M' := by
          intro n
          induction n with
          | zero => intro i iv st' vis' M' _ h; omega
          | succ n ihn =>
            intro i iv st' vis' M' hiv hn hi hD' hcl' hdone hm'
            obtain ⟨g1, g2, g3, ⟨g4, g5⟩, g6, g7, g8⟩ := id hD'
            obtain ⟨⟨p1, p2, p3⟩, ⟨q1, q2, q3⟩, q4⟩ := g1.2.2 at' hatl
            have hsl' := nodup_len g5 (fun v hv => (g7 v hv).elim (fun q => (g6 v q).1) (fun q => q ▸ hk))
            unfold w_World_comesBack_L45
            rw [oN_tnc (k := at') (by omega), g1.2.1.2.2.1, q1]
            refine ⟨(vp_oN (by omega)).mpr (by omega), ?_⟩
            have ei : i ≠ 0 → iv = Int32.ofNat (i - 1) := fun q => by
              rcases hiv with x | x
              · exact absurd x.1 q
              · exact x.2
            have ei1 : iv + 1 = Int32.ofNat i := by
              rcases hiv with x | x
              · rw [x.1, x.2]; decide
              · rw [x.2, lit32 1, oN_add, Nat.sub_add_cancel (by omega)]
            rcases Nat.lt_or_ge (gc W at').2.2.1.length i with el | el
            · have el : i = (gc W at').2.2.1.length + 1 := by omega
              rw [ei (by omega)]
              refine itp (le_oN (by omega) (by omega)) (ih st' vis' M' hm' hD' (fun v hv => ?_))
              rcases hcl' v hv with x | x | x
              · exact Or.inl x
              · refine Or.inr (fun d hd => ?_)
                obtain ⟨j, hj, hjd⟩ := hd
                rw [x] at hj hjd
                exact hdone j d (by omega) hjd
              · exact Or.inr x
            · have j92 : ∀ o, dirW true W at' i = o → w_World_comesBack_j92 w Q (w_World_comesBack_L28 w Q fuel) (w_World_comesBack_L45 w Q (w_World_comesBack_L28 w Q fuel) n) (Int32.ofNat k) 0 0 (Int32.ofNat st'.length) (Int32.ofNat at') iv (oC o) M' := by
                intro o ho
                have nx : ∀ st2 vis2 M2, DB A W w k st2 vis2 M2 → (∀ v, v ∈ vis2 ∨ v = k → v ∈ st2 ∨ v = at' ∨ ∀ d, edge true W v d → d ≠ k ∧ d ∈ vis2) → (∀ j d, j < i + 1 → dirW true W at' j = some d → d ≠ k ∧ d ∈ vis2) → 2 * (W.length - vis2.length) + st2.length < fuel → w_World_comesBack_j131 w Q (w_World_comesBack_L28 w Q fuel) (w_World_comesBack_L45 w Q (w_World_comesBack_L28 w Q fuel) n) (Int32.ofNat k) 0 0 (Int32.ofNat st2.length) (Int32.ofNat at') iv M2 := by
                  intro st2 vis2 M2 x1 x4 x5 x6
                  unfold w_World_comesBack_j131
                  rw [ei1]
                  exact ihn (i + 1) (Int32.ofNat i) st2 vis2 M2 (Or.inr ⟨by omega, rfl⟩) (by omega) (by omega) x1 x4 x5 x6
                unfold w_World_comesBack_j92
                cases o with
                | none =>
                  have hne : ¬ oC none = Int32.ofNat k := fun q => by
                    have := oN_nonneg (a := k) (by omega)
                    rw [← q] at this; exact this (by decide)
                  refine itn hne (itp (by decide) (nx st' vis' M' hD' hcl' (fun j d hj hjd => ?_) hm'))
                  by_cases e2 : j = i
                  · rw [e2, ho] at hjd; cases hjd
                  · exact hdone j d (by omega) hjd
                | some d =>
                  have hed : edge true W at' d := ⟨i, by omega, ho⟩
                  have hdl := edge_lt hatl hed
                  by_cases cdk : d = k
                  · refine itp (by rw [cdk]; rfl) (hQ M' true ⟨fun _ => ring_of hatr (cdk ▸ hed), fun _ => rfl⟩)
                  · refine itn (ne_oN cdk (by omega) (by omega)) (itn (oN_nonneg (by omega)) ?_)
                    rw [show oC (some d) = Int32.ofNat d from rfl, oN_tnc (by omega), g2.1]
                    refine ⟨(vp_oN (by omega)).mpr (by omega), ?_⟩
                    by_cases cv : d ∈ vis'
                    · refine itn ((g3 d (by omega)).mpr cv) (nx st' vis' M' hD' hcl' (fun j x hj hjd => ?_) hm')
                      by_cases e2 : j = i
                      · rw [e2, ho] at hjd; cases hjd; exact ⟨cdk, cv⟩
                      · exact hdone j x (by omega) hjd
                    · refine itp (Classical.byContradiction (fun q => cv ((g3 d (by omega)).mp q))) ⟨(vp_oN (by omega)).mpr (by omega), ?_⟩
                      have hlt : vis'.length < W.length := by
                        have := nodup_len (l := vis' ++ [d]) (n := W.length) (by
                          rw [List.nodup_append]
                          exact ⟨g4, by simp, fun a ha b hb => by simp at hb; subst hb; exact fun e => cv (e ▸ ha)⟩) (fun v hv => by
                          rcases List.mem_append.mp hv with q | q
                          · exact (g6 v q).1
                          · simp at q; rw [q]; exact hdl)
                        simp at this; omega
                      refine ⟨by show vp_in _ (mL M' 97 0); rw [g2.2]; exact (vp_oN (by omega)).mpr (by omega), _, rfl, ?_⟩
                      rw [oN_tnc (by omega), lit32 1, oN_add]
                      have hp := hD'.push hdl cdk (hatr.snoc hed) cv
                      have hlen : (st' ++ [d]).length = st'.length + 1 := by simp
                      have := nx (st' ++ [d]) (vis' ++ [d]) _ hp (fun v hv => ?_) (fun j x hj hjd => ?_) (by simp; omega)
                      · rw [hlen] at this; exact this
                      · have step : v ∈ vis' ∨ v = k → v ∈ st' ++ [d] ∨ v = at' ∨ ∀ x, edge true W v x → x ≠ k ∧ x ∈ vis' ++ [d] := fun hv' => by
                          rcases hcl' v hv' with x | x | x
                          · exact Or.inl (List.mem_append_left _ x)
                          · exact Or.inr (Or.inl x)
                          · exact Or.inr (Or.inr (fun y hy => ⟨(x y hy).1, List.mem_append_left _ (x y hy).2⟩))
                        rcases hv with q | q
                        · rcases List.mem_append.mp q with y | y
                          · exact step (Or.inl y)
                          · exact Or.inl (List.mem_append_right _ y)
                        · exact step (Or.inr q)
                      · by_cases e2 : j = i
                        · rw [e2, ho] at hjd; cases hjd; exact ⟨cdk, by simp⟩
                        · exact ⟨(hdone j x (by omega) hjd).1, List.mem_append_left _ (hdone j x (by omega) hjd).2⟩
              by_cases e0 : i = 0
              · have eiv : iv = -1 := by
                  rcases hiv with x | x
                  · exact x.2
                  · exact absurd e0 x.1
                subst e0
                refine itn (fun q => ?_) (itn (by rw [eiv]; decide) ?_)
                · rw [eiv, Int32.le_iff_toInt_le, oN_toInt (by omega)] at q
                  have : (-1 : Int32).toInt = -1 := by decide
                  omega
                · rw [g1.2.1.1, p1]
                  refine ⟨(vp_oN (by omega)).mpr (by omega), c_findP g1 p2 (j92 _ ?_)⟩
                  unfold dirW; rw [if_pos rfl, if_pos rfl]
              · rw [ei e0] at j92 ⊢
                refine itn (nle_oN (by omega) (by omega)) (itp (oN_zero_le (by omega)) ?_)
                rw [lit32 4, oN_mul, oN_add, oN_tnc (by omega), g1.2.1.2.1, (q3 (i - 1) (by omega)).1]
                refine ⟨(vp_oN (by omega)).mpr (by omega), c_find g1.1 (q3 (i - 1) (by omega)).2 (j92 _ ?_)⟩
                unfold dirW; rw [if_neg e0]
        have := inner 6 0 (-1) rest vis M (Or.inl ⟨rfl, rfl⟩) (by have := (h1.2.2 at' hatl).2.1.2.1; omega) (by omega) hD0 (fun v hv => ?_) (fun j d hj => by omega) (by omega)
        · exact this
        · rcases hcl v hv with x | x
          · rw [est] at x
            rcases List.mem_append.mp x with y | y
            · exact Or.inl y
            · simp at y; exact Or.inr (Or.inl y)
          · exact Or.inr (Or.inr x)
  unfold w_World_comesBack
  refine ⟨by rw [hS.1]; decide, _, rfl, ?_⟩
  refine ⟨by show vp_in 0 (mL M 97 0); rw [hS.2]; exact (vp_oN (a := 0) (by omega)).mpr (by omega), 2 * W.length + 3, ?_⟩
  have hD : DB A W w k [k] [] (sI (flI M 515 0 0) 97 0 (0 : Int32).toNatClampNeg (Int32.ofNat k)) := by
    refine ⟨hW, hS, fun i hi => ⟨fun q => absurd ?_ q, (fun q => absurd q (by simp))⟩, ⟨List.nodup_nil, by simp⟩, (fun v hv => absurd hv (by simp)), (fun v hv => Or.inr (by simpa using hv)), fun j hj => ?_⟩
    · show (if (515 : Nat) = 515 ∧ (0 : Nat) = 0 ∧ i < mL M 515 0 then (0 : Int32) else _) = 0
      rw [if_pos ⟨rfl, rfl, by omega⟩]
    · have : j = 0 := by simp at hj; exact hj
      subst this
      rfl
  have := main (2 * W.length + 3) [k] [] _ (by show 2 * (W.length - 0) + 1 < 2 * W.length + 3; omega) hD (fun v hv => Or.inl (by
    rcases hv with q | q
    · cases q
    · rw [q]; simp))
  exact this

