/-! B: finding in the twin: faces, methods -/
theorem bs_test0 {m : Int64} {c : Nat} (hc : c < 64) : lg_cmp ((m >>> ((Int32.ofNat c).toInt64 &&& 63)) &&& (1 : Int64)) (0 : Int64) = 0 ↔ bs m c = false := by
  have h1 := bs_test (m := m) hc
  rw [lg_cmp0] at h1 ⊢
  have h01 : ((m >>> ((Int32.ofNat c).toInt64 &&& 63)) &&& (1 : Int64)) = 0 ∨ ((m >>> ((Int32.ofNat c).toInt64 &&& 63)) &&& (1 : Int64)) = 1 := by
    generalize m >>> ((Int32.ofNat c).toInt64 &&& 63) = y
    have : y.toBitVec &&& 1#64 = 0#64 ∨ y.toBitVec &&& 1#64 = 1#64 := by
      cases e : y.toBitVec.getLsbD 0 with
      | false =>
        left
        apply BitVec.eq_of_getLsbD_eq
        intro i hi
        rw [BitVec.getLsbD_and, BitVec.getLsbD_one]
        by_cases c0 : i = 0
        · rw [c0, e]; simp
        · simp [c0]
      | true =>
        right
        apply BitVec.eq_of_getLsbD_eq
        intro i hi
        rw [BitVec.getLsbD_and, BitVec.getLsbD_one]
        by_cases c0 : i = 0
        · rw [c0, e]; simp
        · simp [c0]
    rcases this with z | z
    · left; apply Int64.toBitVec_inj.mp; rw [Int64.toBitVec_and]; exact z
    · right; apply Int64.toBitVec_inj.mp; rw [Int64.toBitVec_and]; exact z
  constructor
  · intro z
    cases e : bs m c with
    | false => rfl
    | true => have := h1.mpr e; rw [z] at this; exact absurd this (by decide)
  · intro z
    refine h01.resolve_right (fun y => ?_)
    have := h1.mp y
    rw [z] at this; cases this
/-- faces that are listed -/
def FLs (W : List Cls) (v : List Nat) (M : Mem) : Prop := (51 ≤ mL M 110 0 ∧ mL M 110 0 < 1000000) ∧ mI M 11 0 68 = Int32.ofNat v.length ∧ mkA (mJ M 11 0 69) v ∧ (∀ i, i < v.length → mI M 110 0 i = Int32.ofNat (gtn v i)) ∧ v.Nodup ∧ ∀ e ∈ v, e < W.length
abbrev SLs : Nat := (1750439418021582173142108456384077349310616097200446121479919756825374480382656245745343834751451065936446868521180541772989219297034710800923950905392417280676262330612189858097811515662113337123257971641835061562986896873615168067662353988596277571010433247145297095242724086582223456765321618139602099691580302698407027208684255356831403303269093045549678330514640443842206333847015373392431220850437922728990747908649079697119457516927116440035489595529504267163715232894567979805252094600063988403603565586410951240300136406036472414388990956840829336202156380037070318991657337319280615553980066298044278406344032508337251945211014965643993269463637966231909202152071791097063905810286722302169162714837680742770815085027823343783755558499400928867244310599786577711194990800406962112324791726339275455905788596423681079114749211872526993866258796773987801508737338336254278826526667638502974528236732294006229615463572137443400050010495209389415639408958913828877132315693678592)
section
variable {G : List Sl} {US : UST} {A : List Nm} {S : List Sg} {W : List Cls} {w c k u p q n : Nat} {br : Int32} {nq nl nf nk : Nat} {M M' : Mem} {s : LkS} {Q : Int32 → Mem → Prop} {x : Mth} {v : List Nat} {msk : Int32}
theorem FLs.put {d : Nat} (h : FLs W v M) (h51 : W.length ≤ 51) (hd : d < W.length) (hv : d ∉ v) : v.length < 51 ∧ FLs W (v ++ [d]) (sI (sI (sJ M 11 0 69 (mJ M 11 0 69 ||| ((1 : Int64) <<< ((Int32.ofNat d).toInt64 &&& 63)))) 110 0 v.length (Int32.ofNat d)) 11 0 68 (Int32.ofNat (v.length + 1))) := by
  obtain ⟨h1, h2, h3, h4, h5, h6⟩ := h
  have hnd : (v ++ [d]).Nodup := by
    rw [List.nodup_append]
    refine ⟨h5, by simp, fun a ha b hb => ?_⟩
    rw [List.mem_singleton.mp hb]
    exact fun z => hv (z ▸ ha)
  have hmem : ∀ e ∈ v ++ [d], e < W.length := fun e he => by
    rcases List.mem_append.mp he with z | z
    · exact h6 e z
    · rw [List.mem_singleton.mp z]; exact hd
  have hl := nodup_len hnd hmem
  rw [List.length_append, List.length_singleton] at hl
  refine ⟨by omega, h1, ?_, ?_, fun i hi => ?_, hnd, hmem⟩
  · rw [mI_sI, if_pos ⟨rfl, rfl, rfl⟩, List.length_append, List.length_singleton]
  · show mkA (mJ M 11 0 69 ||| ((1 : Int64) <<< ((Int32.ofNat d).toInt64 &&& 63))) (v ++ [d])
    exact h3.put (by omega)
  · rw [List.length_append, List.length_singleton] at hi
    rw [mI_sI, if_neg (fun z => absurd z.1 (by decide)), mI_sI]
    by_cases e : i = v.length
    · rw [if_pos ⟨rfl, rfl, e⟩, e]
      show _ = Int32.ofNat ((v ++ [d]).getD v.length 0)
      rw [List.getD_eq_getElem?_getD, List.getElem?_append_right (Nat.le_refl _), Nat.sub_self]; rfl
    · rw [if_neg (fun z => e z.2.2)]
      show mI M 110 0 i = Int32.ofNat ((v ++ [d]).getD i 0)
      rw [List.getD_eq_getElem?_getD, List.getElem?_append_left (by omega), ← List.getD_eq_getElem?_getD]
      exact h4 i (by omega)
theorem ct_listOwn (hI : LInv W s.1) : ∀ n c v M (Q : Mem → Prop), LKt G US A S W w br nq nl nf nk s M → FLs W v M → c < W.length → s.1 c = 1 → mu W c < n → (∀ M', Fr SLs M M' → FLs W (lsO W n c v) M' → Q M') → wr_Model_listOwn n 0 (Int32.ofNat c) Q M := by
  intro n
  induction n with
  | zero => intro c v M Q _ _ _ _ h; exact absurd h (by omega)
  | succ n ih =>
    intro c v M Q h hv hc hl hn hQ
    have h51 := h.1.l51
    have loop : ∀ m j v M1, Fr SLs M M1 → FLs W v M1 → (gc W c).2.2.1.length - j < m → j ≤ (gc W c).2.2.1.length → (∀ M', Fr SLs M M' → FLs W (lsS (lsO W n) W ((gc W c).2.2.1.drop j) v) M' → Q M') → wk_Model_listOwn_L2 (wr_Model_listOwn n) 0 Q m (Int32.ofNat c) (Int32.ofNat j) M1 := by
      intro m
      induction m with
      | zero => intro j v M1 _ _ hm; exact absurd hm (by omega)
      | succ m ihm =>
        intro j v M1 f1 hv1 hm hj hq
        have k1 := (h.fr f1).1
        have hcl := k1.1.cl
        obtain ⟨e34, h4, e33⟩ := (hcl.2.2 c hc).2.1
        unfold wk_Model_listOwn_L2 wk_Model_listOwn_j87
        refine ⟨w, k1.1.r45, ?_⟩
        rw [oN_tnc (k := c) (by omega), hcl.2.1.2.2.1, e34]
        refine ⟨(vp_oN (by omega)).mpr (by omega), ?_⟩
        by_cases cj : (gc W c).2.2.1.length ≤ j
        · rw [List.drop_of_length_le cj] at hq
          exact itp (le_oN (by omega) (by omega)) (hq M1 f1 hv1)
        have hjl : j < (gc W c).2.2.1.length := by omega
        refine itn (nle_oN (by omega) (by omega)) ⟨w, k1.1.r45, ?_⟩
        rw [show (4 : Int32) * Int32.ofNat c = Int32.ofNat (4 * c) from oN_mul 4 c, oN_add, oN_tnc (k := 4 * c + j) (by omega), (e33 j hjl).1, hcl.2.1.2.1]
        refine ⟨(vp_oN (by omega)).mpr (by omega), ?_⟩
        obtain ⟨d, ed, hd, ld, md⟩ := hI.face hc hl hjl
        refine ct_classOf k1.1.r45 hcl.1 (e33 j hjl).2 ?_
        rw [lsS_drop hjl, ed] at hq
        dsimp only at hq
        rw [show fnd W (gf (gc W c) j) = some d from ed, show oC (some d) = Int32.ofNat d from rfl]
        rw [show Int32.ofNat j + (1 : Int32) = Int32.ofNat (j + 1) from oN_add j 1]
        refine itn (oN_nonneg (show d < 2147483648 by omega)) ?_
        by_cases cv : d ∈ v
        · rw [if_pos cv] at hq
          refine itn (fun z => ?_) (ihm (j + 1) v M1 f1 hv1 (by omega) (by omega) hq)
          have := (bs_test0 (show d < 64 by omega)).mp z
          rw [(hv1.2.2.1 d (by omega)).mpr cv] at this; cases this
        rw [if_neg cv] at hq
        obtain ⟨hl51, hp⟩ := hv1.put h51 hd cv
        have e68 : ∀ y, mI (sJ M1 11 0 69 y) 11 0 68 = Int32.ofNat v.length := fun y => hv1.2.1
        refine itp ((bs_test0 (show d < 64 by omega)).mpr ?_) ⟨_, rfl, ?_⟩
        · cases e : bs (mJ M1 11 0 69) d with
          | false => rfl
          | true => exact absurd ((hv1.2.2.1 d (by omega)).mp e) cv
        · show vp_in (mI (sJ M1 11 0 69 (mJ M1 11 0 69 ||| ((1 : Int64) <<< ((Int32.ofNat d).toInt64 &&& 63)))) 11 0 68) (mL M1 110 0) ∧ _
          rw [e68]
          have hlL := hv1.1
          refine ⟨(vp_oN (by omega)).mpr (by omega), _, rfl, ?_⟩
          rw [oN_tnc (k := v.length) (by omega), show ∀ y z, mI (sI (sJ M1 11 0 69 y) 110 0 v.length z) 11 0 68 = Int32.ofNat v.length from fun y z => hv1.2.1, show Int32.ofNat v.length + (1 : Int32) = Int32.ofNat (v.length + 1) from oN_add _ 1]
          have f2 : Fr SLs M1 (sI (sI (sJ M1 11 0 69 (mJ M1 11 0 69 ||| ((1 : Int64) <<< ((Int32.ofNat d).toInt64 &&& 63)))) 110 0 v.length (Int32.ofNat d)) 11 0 68 (Int32.ofNat (v.length + 1))) := Fr.wI rfl (Fr.wIa rfl rfl (Fr.wJ rfl (Fr.rf _ _)))
          exact ih d (v ++ [d]) _ _ (k1.fr f2).1 hp hd ld (by omega) (fun M3 f3 hv3 => ihm (j + 1) _ M3 ((f1.trans f2).trans f3) hv3 (by omega) (by omega) hq)
    show wk_Model_listOwn (wr_Model_listOwn n) 0 _ Q M
    unfold wk_Model_listOwn
    exact ⟨(gc W c).2.2.1.length + 1, loop _ 0 v M (Fr.rf _ _) hv (by omega) (by omega) hQ⟩
/-- a class above a linked one -/
theorem LInv.nx (hI : LInv W s.1) {d : Nat} (hd : d < W.length) (ld : s.1 d = 1) (d0 : d ≠ 0) : ∃ e, upW W d = some e ∧ e < W.length ∧ s.1 e = 1 ∧ mu W e < mu W d := by
  obtain ⟨e, eu, hel, hee⟩ := hI.up hd ld d0
  have hp := hI.1.2.2.2.1
  refine ⟨e, eu, hel, ?_, ?_⟩
  · rcases hee with z | z
    · rw [z]; exact hI.1.2.2.2.2 0 (by omega)
    · exact z.1
  · unfold mu
    rw [if_neg d0]
    by_cases e0 : e = 0
    · rw [if_pos e0]; exact rk_pos hd
    · rw [if_neg e0]; exact (hee.resolve_left e0).2
/-- how far up it goes -/
noncomputable def nuW (W : List Cls) (c : Nat) : Nat := if c = 0 then 1 else rk W c
theorem nuW_le (h21 : 21 ≤ W.length) : nuW W c ≤ W.length := by
  unfold nuW
  split
  · omega
  · exact rk_le
theorem nuW_pos (hc : c < W.length) : 1 ≤ nuW W c := by
  unfold nuW
  split
  · omega
  · exact rk_pos hc
theorem LInv.nu (hI : LInv W s.1) {d : Nat} (hd : d < W.length) (ld : s.1 d = 1) (d0 : d ≠ 0) : ∃ e, upW W d = some e ∧ e < W.length ∧ s.1 e = 1 ∧ nuW W e < nuW W d := by
  obtain ⟨e, eu, hel, he1, hmu⟩ := hI.nx hd ld d0
  refine ⟨e, eu, hel, he1, ?_⟩
  unfold nuW
  rw [if_neg d0]
  by_cases e0 : e = 0
  · rw [if_pos e0]
    rcases hI.2 d hd ld with z | ⟨hr, ⟨p, hp, lp⟩, -⟩
    · exact absurd z d0
    · have h1 := rk_lt hd (edge_par hp) hr
      have h2 := rk_pos (W := W) (fnd_lt hp)
      omega
  · rw [if_neg e0]
    unfold mu at hmu
    rw [if_neg d0, if_neg e0] at hmu
    exact hmu
theorem ct_listFaces {Q : Mem → Prop} (hI : LInv W s.1) (h : LKt G US A S W w br nq nl nf nk s M) (hL : 51 ≤ mL M 110 0 ∧ mL M 110 0 < 1000000) (hc : c < W.length) (hl : s.1 c = 1) (hQ : ∀ M', Fr SLs M M' → FLs W (lsF W 52 (some c) []) M' → Q M') : w_Model_listFaces 0 (Int32.ofNat c) Q M := by
  have h51 := h.1.l51
  have loop : ∀ m r (u : Option Nat) v M1 k, Fr SLs M M1 → FLs W v M1 → (∀ d, u = some d → d < W.length ∧ s.1 d = 1 ∧ nuW W d ≤ r ∧ k + nuW W d ≤ 51) → ((u = none ∨ r < m) ∧ 0 < m) → (lsF W 52 (some c) [] = lsF W r u v) → w_Model_listFaces_L14 0 Q m (oC u) (Int32.ofNat k) M1 := by
    intro m
    induction m with
    | zero => intro r u v M1 k _ _ _ hm; exact absurd hm.2 (by omega)
    | succ m ihm =>
      intro r u v M1 k fr hv hu hr he
      unfold w_Model_listFaces_L14
      cases u with
      | none =>
        have : lsF W r none v = v := by cases r <;> rfl
        rw [this] at he
        rw [he] at hQ
        exact itp (by decide) (hQ M1 fr hv)
      | some d =>
        obtain ⟨hd, ld, md, kd⟩ := hu d rfl
        have hnp := nuW_pos hd
        obtain ⟨r', er⟩ : ∃ r', r = r' + 1 := ⟨r - 1, by omega⟩
        subst er
        rw [show lsF W (r' + 1) (some d) v = lsF W r' (upW W d) (lsO W 60 d v) from rfl] at he
        have k1 := (h.fr fr).1
        refine itn (oN_nonneg (show d < 2147483648 by omega)) (itn (fun z => ?_) ?_)
        · have := (oN_le (a := 51) (b := k) (by omega) (by omega)).mp z
          omega
        refine ⟨60, Nat.le_refl _, ct_listOwn hI 60 d v M1 _ k1 hv hd ld (by have := mu_le (W := W) (c := d); omega) (fun M2 f2 hv2 => ?_)⟩
        have k2 := (k1.fr f2).1
        refine ct_parentOf k2.1.r45 k2.1.cl hd ?_
        rw [show Int32.ofNat k + (1 : Int32) = Int32.ofNat (k + 1) from oN_add k 1]
        have hrm := hr.1.resolve_left (fun z => by cases z)
        by_cases d0 : d = 0
        · have e : upW W d = none := by unfold upW; rw [if_pos d0]
          rw [e] at he ⊢
          exact ihm r' none _ M2 (k + 1) (fr.trans f2) hv2 (fun _ z => by cases z) ⟨Or.inl rfl, by omega⟩ he
        · obtain ⟨e, eu, hel, he1, hnu⟩ := hI.nu hd ld d0
          rw [eu] at he ⊢
          exact ihm r' (some e) _ M2 (k + 1) (fr.trans f2) hv2 (fun d' z => by cases z; exact ⟨hel, he1, by omega, by omega⟩) ⟨Or.inr (by omega), by omega⟩ he
  unfold w_Model_listFaces
  have h21 := hI.1.2.2.2.1
  have hn := nuW_le (W := W) (c := c) h21
  refine ⟨53, loop 53 52 (some c) [] _ 0 (Fr.wJ rfl (Fr.wI rfl (Fr.rf _ _))) ⟨hL, ?_, ?_, fun i hi => absurd hi (by simp), List.nodup_nil, fun e he => absurd he List.not_mem_nil⟩ (fun d z => by cases z; exact ⟨hc, hl, by omega, by omega⟩) ⟨Or.inr (by omega), by omega⟩ rfl⟩
  · show mI (sI M 11 0 68 0) 11 0 68 = 0
    rw [mI_sI, if_pos ⟨rfl, rfl, rfl⟩]
  · rw [mJ_sJ, if_pos ⟨rfl, rfl, rfl⟩]; exact mkA.nil
def oMt (o : Option (Nat × Nat)) : Int32 := match o with
  | none => -2
  | some r => Int32.ofNat (12 * r.1 + r.2)
/-- a method that may be sought, as the twin holds it -/
def xOk (A : List Nm) (S : List Sg) (x : Mth) : Prop := x.1 ∈ A ∧ sg A x.2.1 x.2.2.1 ∈ S ∧ (∀ κ ∈ x.2.1, kok A κ ∧ kdOk κ) ∧ (kok A x.2.2.1 ∧ kdOk x.2.2.1)
theorem pk_stay {q : Nat × Nat} (hq : (gmt (gc W q.1) q.2).2.2.2.1 &&& 8 = 0) : ∀ {l : List Nat}, l.foldl (pkM W x msk) (some q) = some q
  | [] => rfl
  | d :: l => by
    have e : pkM W x msk (some q) d = some q := by
      unfold pkM
      split
      · rfl
      · dsimp only
        rw [if_neg (fun z => z.1 hq)]
    show l.foldl (pkM W x msk) (pkM W x msk (some q) d) = _
    rw [e]; exact pk_stay hq
theorem oMt_lt (h : TB G US A S W w br nq nl nf nk M) {q : Nat × Nat} (hq : okM W x msk q) : 12 * q.1 + q.2 < 612 ∧ mI M 146 w (12 * q.1 + q.2) = (gmt (gc W q.1) q.2).2.2.2.1 := by
  have h51 := h.l51
  have h12 := (h.mcn hq.1).2
  have := hq.1
  have := hq.2.1
  exact ⟨by omega, (h.hd hq.1 hq.2.1).2.2.2.1⟩
/-- in a class's faces, and those of the classes above -/
theorem ct_inFaces {fl : Bool} (hI : LInv W s.1) (h : LKt G US A S W w br nq nl nf nk s M) (hx : xOk A S x) (hL : 51 ≤ mL M 110 0 ∧ mL M 110 0 < 1000000) (hc : c < W.length) (hl : s.1 c = 1) (hm : msk = if fl then 5 else 0) (hQ : ∀ M', Fr SLs M M' → Q (oMt ((lsF W 52 (some c) []).foldl (pkM W x msk) none)) M') : w_Model_inFaces 0 (Int32.ofNat c) (nc A x.1) (Int32.ofNat (S.idxOf (sg A x.2.1 x.2.2.1))) (b2 fl) Q M := by
  have h51 := h.1.l51
  unfold w_Model_inFaces
  refine ct_listFaces hI h hL hc hl (fun M1 f1 hv => ⟨(lsF W 52 (some c) []).length + 1, ?_⟩)
  have k1 := (h.fr f1).1
  generalize lsF W 52 (some c) [] = L at hv hQ ⊢
  obtain ⟨v1, v2, v3, v4, v5, v6⟩ := hv
  have hlen := nodup_len v5 v6
  have hdr : ∀ m, m < L.length → L.drop m = gtn L m :: L.drop (m + 1) := fun m hm => by
    rw [List.drop_eq_getElem_cons hm]
    congr 1
    show _ = L.getD m 0
    rw [List.getD_eq_getElem?_getD, List.getElem?_eq_getElem hm]; rfl
  have loop : ∀ m i (o : Option (Nat × Nat)), L.length - i < m → i ≤ L.length → (∀ q, o = some q → okM W x msk q ∧ ¬ (gmt (gc W q.1) q.2).2.2.2.1 &&& 8 = 0) → L.foldl (pkM W x msk) none = (L.drop i).foldl (pkM W x msk) o → w_Model_inFaces_L12 0 Q m (nc A x.1) (Int32.ofNat (S.idxOf (sg A x.2.1 x.2.2.1))) (b2 fl) (oMt o) (Int32.ofNat i) M1 := by
    intro m
    induction m with
    | zero => intro i o hm; exact absurd hm (by omega)
    | succ m ihm =>
      intro i o hm' hi ho he
      unfold w_Model_inFaces_L12
      rw [v2]
      by_cases ci : L.length ≤ i
      · rw [List.drop_of_length_le ci] at he
        rw [show L.foldl (pkM W x msk) none = o from he] at hQ
        exact itp (le_oN ci (by omega)) (hQ M1 f1)
      have hil : i < L.length := by omega
      have hgd : gtn L i < W.length := v6 _ (getD_mem hil)
      rw [hdr i hil] at he
      have he : L.foldl (pkM W x msk) none = (L.drop (i + 1)).foldl (pkM W x msk) (pkM W x msk o (gtn L i)) := he
      refine itn (nle_oN (by omega) (by omega)) ⟨(vp_oN (by omega)).mpr (by omega), ?_⟩
      rw [oN_tnc (k := i) (by omega), v4 i hil]
      generalize gtn L i = d at hgd he
      refine ct_methodIn k1.1 hgd hx.1 hx.2.1 hx.2.2 ?_
      have nx : ∀ o', (∀ q, o' = some q → okM W x msk q ∧ ¬ (gmt (gc W q.1) q.2).2.2.2.1 &&& 8 = 0) → pkM W x msk o d = o' → w_Model_inFaces_L12 0 Q m (nc A x.1) (Int32.ofNat (S.idxOf (sg A x.2.1 x.2.2.1))) (b2 fl) (oMt o') (Int32.ofNat i + (1 : Int32)) M1 := fun o' ho' eo => by
        rw [show Int32.ofNat i + (1 : Int32) = Int32.ofNat (i + 1) from oN_add i 1]
        rw [eo] at he
        exact ihm (i + 1) o' (by omega) (by omega) ho' he
      unfold w_Model_inFaces_j97
      cases eI : ownI x 0 (gc W d).2.2.2.2.2 with
      | none =>
        have eq : ownQ x msk (gc W d).2.2.2.2.2 = none := by unfold ownQ; rw [eI]
        exact itp (show (-2 : Int32) < 0 by decide) (nx o ho (pkM_z eq))
      | some j =>
        have hj := ownI_lt eI
        have hj2 := ownI_at (d := ([], [], (0, []), 0, 0, 0, [], [])) eI
        rw [Nat.sub_zero] at hj2
        have hj3 : j < (gc W d).2.2.2.2.2.length := by omega
        have h12 := (k1.1.mcn hgd).2
        have e146 : mI M1 146 w (12 * d + j) = (gmt (gc W d) j).2.2.2.1 := (k1.1.hd hgd hj3).2.2.2.1
        have l146 := k1.1.ml (f := 146) (by omega) (by omega)
        refine itn (oN_nonneg (show 12 * d + j < 2147483648 by omega)) ?_
        have j64 : (gmt (gc W d) j).2.2.2.1 &&& msk = 0 → w_Model_inFaces_j64 0 Q (w_Model_inFaces_L12 0 Q m) (nc A x.1) (Int32.ofNat (S.idxOf (sg A x.2.1 x.2.2.1))) (b2 fl) (oMt o) (Int32.ofNat i) (Int32.ofNat (12 * d + j)) M1 := fun hms => by
          have eq : ownQ x msk (gc W d).2.2.2.2.2 = some j := by
            unfold ownQ; rw [eI]; dsimp only
            rw [if_pos (show (gmt (gc W d) j).2.2.2.1 &&& msk = 0 from hms)]
          have hdj : okM W x msk (d, j) := ⟨hgd, ownQ_lt eq⟩
          unfold w_Model_inFaces_j64 w_Model_inFaces_j95 w_Model_inFaces_j97
          refine ⟨w, k1.1.r45, by rw [l146]; exact (vp_oN (by omega)).mpr (by omega), ?_⟩
          rw [oN_tnc (k := 12 * d + j) (by omega), e146]
          by_cases c8 : (gmt (gc W d) j).2.2.2.1 &&& 8 = 0
          · have ep : pkM W x msk o d = some (d, j) := by
              cases o with
              | none => exact pkM_n eq
              | some q => rw [pkM_s eq, if_pos ⟨(ho q rfl).2, c8⟩]
            rw [ep] at he
            have he2 := he.trans (pk_stay (W := W) (x := x) (msk := msk) (q := (d, j)) c8 (l := L.drop (i + 1)))
            rw [he2] at hQ
            exact itp c8 (hQ M1 f1)
          · refine itn c8 ?_
            cases o with
            | none => exact itn (show ¬ (0 : Int32) ≤ -2 by decide) (nx (some (d, j)) (fun q z => by cases z; exact ⟨hdj, c8⟩) (pkM_n eq))
            | some q =>
              have hq := (ho q rfl).1
              have := (oMt_lt k1.1 hq).1
              refine itp (oN_zero_le (show 12 * q.1 + q.2 < 2147483648 by omega)) (nx (some q) ho ?_)
              rw [pkM_s eq, if_neg (fun z => c8 z.2)]
        cases fl with
        | false =>
          have hm0 : msk = 0 := hm
          exact itp rfl (j64 (by rw [hm0]; exact Int32.and_zero))
        | true =>
          have hm5 : msk = 5 := hm
          refine itn (by decide) ⟨w, k1.1.r45, by rw [l146]; exact (vp_oN (by omega)).mpr (by omega), ?_⟩
          rw [oN_tnc (k := 12 * d + j) (by omega), e146]
          by_cases c5 : (gmt (gc W d) j).2.2.2.1 &&& 5 = 0
          · exact itp c5 (j64 (by rw [hm5]; exact c5))
          · refine itn c5 (nx o ho (pkM_z ?_))
            unfold ownQ; rw [eI]; dsimp only
            rw [if_neg (show ¬ (gmt (gc W d) j).2.2.2.1 &&& msk = 0 by rw [hm5]; exact c5)]
  exact loop _ 0 none (by omega) (by omega) (fun q z => by cases z) rfl
end
