/-! B: names of the twin -/
abbrev sB : Sl := (11, 0, 0, 401)
abbrev sZ : Sl := (11, 0, 1, 401)
abbrev sX : Sl := (11, 0, 2, 300)
def sumT : Nm → Nat → Int32
  | nm, 0 => Int32.ofNat nm.length
  | nm, k + 1 => (31 : Int32) * sumT nm k + gb0 nm k
def hashT (nm : Nm) : Int32 := (sumT nm nm.length ^^^ ((sumT nm nm.length).toUInt32 >>> ((13 : Int32).toUInt32 &&& Int32.toUInt32 31)).toInt32) &&& (4095 : Int32)
def hT (nm : Nm) : Nat := (hashT nm).toNatClampNeg
theorem and_lt {x : Int32} {m : Nat} (hm : m < 2147483648) : ∃ h, h ≤ m ∧ (x &&& Int32.ofNat m) = Int32.ofNat h := by
  refine ⟨x.toBitVec.toNat &&& m, Nat.and_le_right, ?_⟩
  apply Int32.toBitVec_inj.mp
  apply BitVec.eq_of_toNat_eq
  rw [Int32.toBitVec_and, BitVec.toNat_and]
  show x.toBitVec.toNat &&& (BitVec.ofNat 32 m).toNat = (BitVec.ofNat 32 _).toNat
  have hle : x.toBitVec.toNat &&& m ≤ m := Nat.and_le_right
  rw [BitVec.toNat_ofNat, BitVec.toNat_ofNat, Nat.mod_eq_of_lt (a := m) (by omega), Nat.mod_eq_of_lt (by omega)]
theorem hT_eq (nm : Nm) : hT nm < 4096 ∧ hashT nm = Int32.ofNat (hT nm) := by
  obtain ⟨h, a, b⟩ := and_lt (x := sumT nm nm.length ^^^ ((sumT nm nm.length).toUInt32 >>> ((13 : Int32).toUInt32 &&& Int32.toUInt32 31)).toInt32) (m := 4095) (by decide)
  have e : hashT nm = Int32.ofNat h := b
  unfold hT
  rw [e, oN_tnc (by omega)]
  exact ⟨by omega, rfl⟩
abbrev gn (A : List Nm) (j : Nat) : Nm := A.getD j []
/-- the twin's table of names -/
def TN (hT : Nm → Nat) (A : List Nm) (M : Mem) : Prop :=
  (mI M 11 0 4 = Int32.ofNat A.length ∧ A.length ≤ 100000 ∧ mL M 105 0 = 4096 ∧ 12 * A.length ≤ rl M sB ∧ A.length ≤ rl M sZ ∧ A.length ≤ rl M sX ∧ rl M sB ≤ 24 * A.length + 6200 ∧ rl M sZ ≤ 2 * A.length + 600 ∧ rl M sX ≤ 2 * A.length + 600) ∧
  (A.Nodup ∧ ∀ a ∈ A, okn a) ∧
  (∀ k, k < A.length → rd M sZ k = Int32.ofNat (gn A k).length ∧ (∀ j, j < (gn A k).length → rd M sB (12 * k + j) = gb0 (gn A k) j) ∧ rd M sX k = last (fun j => hT (gn A j) == hT (gn A k)) k + 1) ∧
  ∀ h, h < 4096 → mI M 105 0 h = last (fun j => hT (gn A j) == h) A.length + 1
theorem gn_app {A : List Nm} {x : Nm} {j : Nat} (h : j < A.length) : gn (A ++ [x]) j = gn A j := by
  simp [gn, List.getD_eq_getElem?_getD, List.getElem?_append_left h]
theorem gn_end {A : List Nm} {x : Nm} : gn (A ++ [x]) A.length = x := by
  simp [gn, List.getD_eq_getElem?_getD]
theorem gn_mem {A : List Nm} {j : Nat} (h : j < A.length) : gn A j ∈ A := by
  simp [gn, List.getD_eq_getElem?_getD, List.getElem?_eq_getElem h]
theorem gn_get {A : List Nm} {j : Nat} {nm : Nm} (h : A[j]? = some nm) : j < A.length ∧ gn A j = nm := by
  obtain ⟨hj, e⟩ := List.getElem?_eq_some_iff.mp h
  exact ⟨hj, by simp [gn, List.getD_eq_getElem?_getD, h]⟩
theorem idx_gn {A : List Nm} (hn : A.Nodup) {j : Nat} (h : j < A.length) : A.idxOf (gn A j) = j := by
  have e : gn A j = A[j] := by simp [gn, List.getD_eq_getElem?_getD, List.getElem?_eq_getElem h]
  rw [e]; exact hn.idxOf_getElem j h
theorem mem_gn {A : List Nm} {x : Nm} (h : x ∈ A) : ∃ j, j < A.length ∧ gn A j = x := by
  obtain ⟨j, hj, e⟩ := List.getElem_of_mem h
  exact ⟨j, hj, by simp [gn, List.getD_eq_getElem?_getD, List.getElem?_eq_getElem hj, e]⟩
theorem ext_gb0 {a b : Nm} (hl : a.length = b.length) (h : ∀ j, j < a.length → gb0 a j = gb0 b j) : a = b := by
  refine List.ext_getElem hl (fun i h1 h2 => ?_)
  have := h i h1
  simpa [gb0, List.getD_eq_getElem?_getD, List.getElem?_eq_getElem h1, List.getElem?_eq_getElem h2] using this
/-- a row of bytes holds a name -/
def Row (M : Mem) (r f : Nat) (nm : Nm) : Prop := f + nm.length ≤ mL M 402 r ∧ f ≤ 1000000 ∧ ∀ k, k < nm.length → mI M 402 r (f + k) = gb0 nm k
theorem c_isName {hT : Nm → Nat} {A : List Nm} {G : List Sl} {M : Mem} {r f x : Nat} {nm : Nm} {Q : Int32 → Mem → Prop} (hG : TG G M) (hGs : sB ∈ G ∧ sZ ∈ G ∧ sX ∈ G) (hN : TN hT A M) (hx : x < A.length) (hn : nm.length ≤ 12) (hr : Row M r f nm)
    (hQ : Q (b2 (decide (gn A x = nm))) M) : w_Model_isName 0 (Int32.ofNat x) r (Int32.ofNat f) (Int32.ofNat nm.length) Q M := by
  obtain ⟨⟨n1, n2, n3, n4, n5, n6, n7, n8, n9⟩, ⟨n10, n11⟩, n12, n13⟩ := id hN
  obtain ⟨z1, z2, z3⟩ := n12 x hx
  obtain ⟨hr1, hr3, hr2⟩ := hr
  have hBr : mR M 11 0 0 = some (401, rdI M sB) := (hG sB hGs.1).1.1
  have hZr : mR M 11 0 1 = some (401, rdI M sZ) := (hG sZ hGs.2.1).1.1
  have hlx := (n11 _ (gn_mem hx)).1
  generalize gn A x = y at z1 z2 z3 hlx hQ
  unfold w_Model_isName
  have ef : ∀ c : Bool, (c = decide ((y).length = nm.length)) → w_Model_isName_j16 0 Q (Int32.ofNat x) r (Int32.ofNat f) (Int32.ofNat nm.length) (b2 c) M := by
    intro c hc
    unfold w_Model_isName_j16
    have main : ∀ d k c, nm.length - k < d → k ≤ nm.length → (c = decide ((y).length = nm.length ∧ ∀ j, j < k → gb0 (y) j = gb0 nm j)) →
        w_Model_isName_L21 0 Q d (Int32.ofNat x) r (Int32.ofNat f) (Int32.ofNat nm.length) (b2 c) (Int32.ofNat k) M := by
      intro d
      induction d with
      | zero => intro k c h; omega
      | succ d ih =>
        intro k c hd hk hc
        have hend : (c = true → k = nm.length) → (b2 c = 0 ∨ b2 c = 1) ∧ Q (b2 c) M := by
          intro he
          refine ⟨by cases c <;> simp [b2], ?_⟩
          have : c = decide (y = nm) := by
            cases c with
            | true =>
              have ek := he rfl
              have h1 := of_decide_eq_true hc.symm
              refine (decide_eq_true ?_).symm
              exact ext_gb0 h1.1 (fun j hj => h1.2 j (by omega))
            | false =>
              have h1 := of_decide_eq_false hc.symm
              refine (decide_eq_false (fun q => h1 ?_)).symm
              rw [q]; exact ⟨rfl, fun _ _ => rfl⟩
          rw [this]; exact hQ
        unfold w_Model_isName_L21
        by_cases e : k = nm.length
        · exact itp (le_oN (by omega) (by omega)) (hend (fun _ => e))
        · refine itn (nle_oN (by omega) (by omega)) ?_
          cases c with
          | false => exact itp rfl (hend (fun q => by cases q))
          | true =>
            refine itn (by decide) ?_
            have h1 := of_decide_eq_true hc.symm
            rw [lit32 12, oN_mul, oN_add, oN_add, oN_tnc (by omega), oN_tnc (by omega)]
            refine ⟨_, hBr, (vp_oN (by omega)).mpr ?_, (vp_oN (by omega)).mpr (by omega), ?_⟩
            · show _ < rl M sB
              omega
            · have e1 : mI M 401 (rdI M sB) (12 * x + k) = gb0 (y) k := z2 k (by omega)
              rw [e1, hr2 k (by omega)]
              have st : ∀ c', (c' = decide (gb0 (y) k = gb0 nm k)) → w_Model_isName_j59 0 Q (w_Model_isName_L21 0 Q d) (Int32.ofNat x) r (Int32.ofNat f) (Int32.ofNat nm.length) (Int32.ofNat k) (b2 c') M := by
                intro c' hc'
                unfold w_Model_isName_j59
                rw [lit32 1, oN_add]
                refine ih (k + 1) c' (by omega) (by omega) ?_
                rw [hc']
                refine decide_eq_decide.mpr ⟨fun q => ⟨h1.1, fun j hj => ?_⟩, fun q => q.2 k (by omega)⟩
                by_cases ej : j = k
                · rw [ej]; exact q
                · exact h1.2 j (by omega)
              by_cases e2 : gb0 (y) k = gb0 nm k
              · exact itp e2 (st true (decide_eq_true e2).symm)
              · exact itn e2 (st false (decide_eq_false e2).symm)
    exact ⟨nm.length + 1, main _ 0 c (by omega) (by omega) (by rw [hc]; exact decide_eq_decide.mpr ⟨fun q => ⟨q, fun j hj => by omega⟩, fun q => q.1⟩)⟩
  rw [oN_tnc (by omega)]
  refine ⟨_, hZr, (vp_oN (by omega)).mpr ?_, ?_⟩
  · show _ < rl M sZ
    omega
  · have e1 : mI M 401 (rdI M sZ) x = Int32.ofNat (y).length := z1
    rw [e1]
    by_cases e : (y).length = nm.length
    · exact itp (by rw [e]) (ef true (decide_eq_true e).symm)
    · exact itn (ne_oN e (by omega) (by omega)) (ef false (decide_eq_false e).symm)

theorem b8_oN {n : Nat} (h : n < 128) : (Int32.ofNat n).toInt8.toInt32 = Int32.ofNat n := by
  have e : (Int32.ofNat n).toInt8 = Int8.ofNat n := by
    apply Int8.toInt_inj.mp
    rw [Int32.toInt_toInt8, oN_toInt (by omega), Int8.toInt_ofNat_of_lt (by simpa using h), Int.bmod_eq_of_le (by omega) (by omega)]
  apply Int32.toInt_inj.mp
  rw [e, Int8.toInt_toInt32, Int8.toInt_ofNat_of_lt (by simpa using h), oN_toInt (by omega)]
theorem b8_okb {b : Int32} (h : okb b) : b.toInt8.toInt32 = b := by
  obtain ⟨n, h1, h2, e⟩ := h
  rw [e, b8_oN h2]
theorem gb0_okb {nm : Nm} (h : okn nm) {k : Nat} (hk : k < nm.length) : okb (gb0 nm k) := by
  have := h.2 (nm[k]) (List.getElem_mem hk)
  simpa [gb0, List.getD_eq_getElem?_getD, List.getElem?_eq_getElem hk] using this
theorem lastA {hT : Nm → Nat} {A : List Nm} {x : Nm} {h n : Nat} (hn : n ≤ A.length) : last (fun j => hT (gn (A ++ [x]) j) == h) n = last (fun j => hT (gn A j) == h) n :=
  last_congr _ (fun j hj => by rw [gn_app (show j < A.length by omega)])
abbrev X3 : List Sl := [sB, sZ, sX]
/-- room was made; the name's bytes come, k of them are there -/
def TNi (hT : Nm → Nat) (A : List Nm) (G : List Sl) (nm : Nm) (r f k : Nat) (M0 M : Mem) : Prop :=
  GF G X3 M0 M ∧ (mI M 11 0 4 = Int32.ofNat A.length ∧ mL M 105 0 = 4096 ∧ 12 * (A.length + 1) ≤ rl M sB ∧ A.length + 1 ≤ rl M sZ ∧ A.length + 1 ≤ rl M sX ∧ rl M sB ≤ 24 * (A.length + 1) + 6200 ∧ rl M sZ ≤ 2 * (A.length + 1) + 600 ∧ rl M sX ≤ 2 * (A.length + 1) + 600) ∧
  (∀ x, x < A.length → rd M sZ x = Int32.ofNat (gn A x).length ∧ (∀ j, j < (gn A x).length → rd M sB (12 * x + j) = gb0 (gn A x) j) ∧ rd M sX x = last (fun j => hT (gn A j) == hT (gn A x)) x + 1) ∧
  (∀ h, h < 4096 → mI M 105 0 h = last (fun j => hT (gn A j) == h) A.length + 1) ∧ Row M r f nm ∧ ∀ j, j < k → rd M sB (12 * A.length + j) = gb0 nm j
theorem c_nameIn_L150 {hT : Nm → Nat} (hlt : ∀ x, hT x < 4096) {A : List Nm} {G : List Sl} {M0 : Mem} {nm : Nm} {r f : Nat} {Q : Int32 → Mem → Prop} (hGs : sB ∈ G ∧ sZ ∈ G ∧ sX ∈ G) (hob : ∀ s ∈ G, s.1 < 20 ∧ 300 ≤ s.2.2.2 ∧ s.2.2.2 ≠ 402) (hlen : A.length < 100000) (hA : A.Nodup ∧ ∀ a ∈ A, okn a) (hn : okn nm) (hnot : nm ∉ A)
    (hQ : ∀ M', TN hT (A ++ [nm]) M' → GF G X3 M0 M' → Q (Int32.ofNat A.length) M') :
    ∀ d k M, nm.length - k < d → k ≤ nm.length → TNi hT A G nm r f k M0 M → w_Model_nameIn_L150 0 Q d r (Int32.ofNat f) (Int32.ofNat nm.length) (Int32.ofNat (hT nm)) (Int32.ofNat k) M := by
  have hl := hn.1
  have hh := hlt nm
  intro d
  induction d with
  | zero => intro k M h; omega
  | succ d ih =>
    intro k M hd hk hI
    obtain ⟨hF, ⟨i1, i2, i3, i4, i5, i6, i7, i8⟩, i9, i10, ⟨i11, i12, i13⟩, i14⟩ := id hI
    have hBr : mR M 11 0 0 = some (401, rdI M sB) := (hF.1 sB hGs.1).1.1
    have hZr : mR M 11 0 1 = some (401, rdI M sZ) := (hF.1 sZ hGs.2.1).1.1
    have hXr : mR M 11 0 2 = some (300, rdI M sX) := (hF.1 sX hGs.2.2).1.1
    have hBZ : rdI M sB ≠ rdI M sZ := (hF.1 sZ hGs.2.1).2 sB hGs.1 (by decide) rfl
    unfold w_Model_nameIn_L150
    rw [i1]
    have eL : (Int32.ofNat A.length).toNatClampNeg = A.length := oN_tnc (by omega)
    by_cases e : k = nm.length
    · refine itp (le_oN (by omega) (by omega)) ?_
      refine ⟨_, hZr, ?_⟩
      rw [b8_oN (by omega), b8_oN (by omega)]
      refine ⟨(vp_oN (by omega)).mpr (show _ < rl M sZ by omega), _, rfl, ?_⟩
      rw [eL]
      have e17 : mI (sI M 401 (rdI M sZ) A.length (Int32.ofNat nm.length)) 11 0 4 = Int32.ofNat A.length := i1
      refine ⟨rdI M sX, hXr, ?_⟩
      rw [e17, eL, oN_tnc (k := hT nm) (by omega)]
      refine ⟨(vp_oN (by omega)).mpr (by show _ < mL M 105 0; omega), (vp_oN (by omega)).mpr (show _ < rl M sX by omega), _, rfl, ?_⟩
      have e105 : mI (sI M 401 (rdI M sZ) A.length (Int32.ofNat nm.length)) 105 0 (hT nm) = mI M 105 0 (hT nm) := rfl
      have e21 : mI (sI (sI M 401 (rdI M sZ) A.length (Int32.ofNat nm.length)) 300 (rdI M sX) A.length (mI (sI M 401 (rdI M sZ) A.length (Int32.ofNat nm.length)) 105 0 (hT nm))) 11 0 4 = Int32.ofNat A.length := i1
      rw [e21]
      refine ⟨(vp_oN (by omega)).mpr (by show _ < mL M 105 0; omega), _, rfl, ?_⟩
      have e23 : ∀ v, mI (sI (sI (sI (sI M 401 (rdI M sZ) A.length (Int32.ofNat nm.length)) 300 (rdI M sX) A.length (mI (sI M 401 (rdI M sZ) A.length (Int32.ofNat nm.length)) 105 0 (hT nm))) 11 0 4 (Int32.ofNat A.length + 1)) 105 0 (hT nm) v) 11 0 4 = Int32.ofNat (A.length + 1) := fun v => by
        show Int32.ofNat A.length + 1 = _
        rw [lit32 1, oN_add]
      rw [e23]
      have e24 : mI (sI (sI (sI M 401 (rdI M sZ) A.length (Int32.ofNat nm.length)) 300 (rdI M sX) A.length (mI (sI M 401 (rdI M sZ) A.length (Int32.ofNat nm.length)) 105 0 (hT nm))) 11 0 4 (Int32.ofNat A.length + 1)) 11 0 4 = Int32.ofNat (A.length + 1) := by
        show Int32.ofNat A.length + 1 = _
        rw [lit32 1, oN_add]
      rw [e24, show Int32.ofNat (A.length + 1) - 1 = Int32.ofNat A.length by rw [lit32 1, oN_sub (by omega)]; rfl, e105]
      -- what was written, one behind the other
      have hF1 : GF G X3 M0 (sI M 401 (rdI M sZ) A.length (Int32.ofNat nm.length)) := hF.wr (s := sZ) hGs.2.1 (by simp) rfl
      have hF2 : GF G X3 M0 (sI (sI M 401 (rdI M sZ) A.length (Int32.ofNat nm.length)) 300 (rdI M sX) A.length (mI M 105 0 (hT nm))) := hF1.wr (s := sX) hGs.2.2 (by simp) rfl
      have rZ : ∀ x, mI (sI (sI M 401 (rdI M sZ) A.length (Int32.ofNat nm.length)) 300 (rdI M sX) A.length (mI M 105 0 (hT nm))) 401 (rdI M sZ) x = if x = A.length then Int32.ofNat nm.length else rd M sZ x := fun x => by
        rw [mI_sI, if_neg (fun q => absurd q.1 (by decide)), mI_sI]
        by_cases ex : x = A.length
        · rw [if_pos ⟨rfl, rfl, ex⟩, if_pos ex]
        · rw [if_neg (fun q => ex q.2.2), if_neg ex]; rfl
      have rB : ∀ x, mI (sI (sI M 401 (rdI M sZ) A.length (Int32.ofNat nm.length)) 300 (rdI M sX) A.length (mI M 105 0 (hT nm))) 401 (rdI M sB) x = rd M sB x := fun x => by
        rw [mI_sI, if_neg (fun q => absurd q.1 (by decide)), mI_sI, if_neg (fun q => hBZ q.2.1)]; rfl
      have rX : ∀ x, mI (sI (sI M 401 (rdI M sZ) A.length (Int32.ofNat nm.length)) 300 (rdI M sX) A.length (mI M 105 0 (hT nm))) 300 (rdI M sX) x = if x = A.length then mI M 105 0 (hT nm) else rd M sX x := fun x => by
        rw [mI_sI]
        by_cases ex : x = A.length
        · rw [if_pos ⟨rfl, rfl, ex⟩, if_pos ex]
        · rw [if_neg (fun q => ex q.2.2), if_neg ex, mI_sI, if_neg (fun q => absurd q.1 (by decide))]; rfl
      have r105 : ∀ x, mI (sI (sI M 401 (rdI M sZ) A.length (Int32.ofNat nm.length)) 300 (rdI M sX) A.length (mI M 105 0 (hT nm))) 105 0 x = mI M 105 0 x := fun x => rfl
      have lB : rl (sI (sI M 401 (rdI M sZ) A.length (Int32.ofNat nm.length)) 300 (rdI M sX) A.length (mI M 105 0 (hT nm))) sB = rl M sB := rfl
      have lZ : rl (sI (sI M 401 (rdI M sZ) A.length (Int32.ofNat nm.length)) 300 (rdI M sX) A.length (mI M 105 0 (hT nm))) sZ = rl M sZ := rfl
      have lX : rl (sI (sI M 401 (rdI M sZ) A.length (Int32.ofNat nm.length)) 300 (rdI M sX) A.length (mI M 105 0 (hT nm))) sX = rl M sX := rfl
      have l105 : mL (sI (sI M 401 (rdI M sZ) A.length (Int32.ofNat nm.length)) 300 (rdI M sX) A.length (mI M 105 0 (hT nm))) 105 0 = 4096 := i2
      have dB : rdI (sI (sI M 401 (rdI M sZ) A.length (Int32.ofNat nm.length)) 300 (rdI M sX) A.length (mI M 105 0 (hT nm))) sB = rdI M sB := rfl
      have dZ : rdI (sI (sI M 401 (rdI M sZ) A.length (Int32.ofNat nm.length)) 300 (rdI M sX) A.length (mI M 105 0 (hT nm))) sZ = rdI M sZ := rfl
      have dX : rdI (sI (sI M 401 (rdI M sZ) A.length (Int32.ofNat nm.length)) 300 (rdI M sX) A.length (mI M 105 0 (hT nm))) sX = rdI M sX := rfl
      generalize sI (sI M 401 (rdI M sZ) A.length (Int32.ofNat nm.length)) 300 (rdI M sX) A.length (mI M 105 0 (hT nm)) = M2 at hF2 rZ rB rX r105 lB lZ lX l105 dB dZ dX
      refine hQ _ ⟨⟨?_, ?_, ?_, ?_, ?_, ?_, ?_, ?_, ?_⟩, ⟨?_, ?_⟩, ?_, ?_⟩ ?_
      · rw [List.length_append, List.length_singleton, ← oN_add]; rfl
      · rw [List.length_append, List.length_singleton]; omega
      · exact l105
      · rw [List.length_append, List.length_singleton]; show _ ≤ rl M2 sB; omega
      · rw [List.length_append, List.length_singleton]; show _ ≤ rl M2 sZ; omega
      · rw [List.length_append, List.length_singleton]; show _ ≤ rl M2 sX; omega
      · rw [List.length_append, List.length_singleton]; show rl M2 sB ≤ _; omega
      · rw [List.length_append, List.length_singleton]; show rl M2 sZ ≤ _; omega
      · rw [List.length_append, List.length_singleton]; show rl M2 sX ≤ _; omega
      · rw [List.nodup_append]
        exact ⟨hA.1, by simp, fun a ha b hb => by simp at hb; subst hb; exact fun e => hnot (e ▸ ha)⟩
      · intro a ha
        rcases List.mem_append.mp ha with h | h
        · exact hA.2 a h
        · simp at h; exact h ▸ hn
      · intro x hx
        rw [List.length_append, List.length_singleton] at hx
        show mI M2 401 (rdI M2 sZ) x = _ ∧ (∀ j, j < _ → mI M2 401 (rdI M2 sB) (12 * x + j) = _) ∧ mI M2 300 (rdI M2 sX) x = _
        rw [dB, dZ, dX]
        by_cases ex : x = A.length
        · subst ex
          rw [gn_end, rZ, if_pos rfl, rX, if_pos rfl, i10 _ hh]
          refine ⟨rfl, fun j hj => by rw [rB]; exact i14 j (by omega), ?_⟩
          rw [lastA (Nat.le_refl _)]
        · have hx' : x < A.length := by omega
          obtain ⟨y1, y2, y3⟩ := i9 x hx'
          rw [gn_app hx', rZ, if_neg ex, rX, if_neg ex]
          refine ⟨y1, fun j hj => by rw [rB]; exact y2 j hj, ?_⟩
          rw [y3, lastA (by omega)]
      · intro h hh'
        rw [List.length_append, List.length_singleton]
        unfold last
        rw [gn_end, mI_sI]
        by_cases eh : hT nm = h
        · subst eh
          rw [if_pos ⟨rfl, rfl, rfl⟩, if_pos (by simp), lit32 1, oN_add]
        · rw [if_neg (fun q => eh q.2.2.symm), if_neg (by simpa using eh)]
          show mI M2 105 0 h = _
          rw [r105, i10 h hh', lastA (Nat.le_refl _)]
      · refine (hF2.of (M2 := sI (sI M2 11 0 4 _) 105 0 _ _) (fun s hs => rfl) (fun s hs i k => ?_) (fun s hs i => rfl) rfl rfl)
        rw [mI_sI, if_neg (fun q => by have := hob s hs; omega), mI_sI, if_neg (fun q => by have := hob s hs; omega)]
    · refine itn (nle_oN (by omega) (by omega)) ?_
      rw [lit32 12, oN_mul, oN_add, oN_add, oN_tnc (by omega), oN_tnc (by omega)]
      refine ⟨_, hBr, (vp_oN (by omega)).mpr (by omega), (vp_oN (by omega)).mpr (show _ < rl M sB by omega), _, rfl, ?_⟩
      rw [i13 k (by omega), b8_okb (gb0_okb hn (by omega)), lit32 1, oN_add]
      refine ih (k + 1) _ (by omega) (by omega) ⟨hF.wr (s := sB) hGs.1 (by simp) rfl, ⟨i1, i2, i3, i4, i5, i6, i7, i8⟩, fun x hx => ?_, i10, ⟨i11, i12, i13⟩, fun j hj => ?_⟩
      · obtain ⟨y1, y2, y3⟩ := i9 x hx
        have hxl := (hA.2 _ (gn_mem hx)).1
        refine ⟨?_, fun j hj => ?_, y3⟩
        · rw [← y1]
          exact if_neg (fun q => hBZ q.2.1.symm)
        · rw [← y2 j hj]
          exact (rd_wr (s := sB)).trans (if_neg (by omega))
      · rw [show sI M 401 (rdI M sB) (12 * A.length + k) (gb0 nm k) = sI M sB.2.2.2 (rdI M sB) (12 * A.length + k) (gb0 nm k) from rfl, rd_wr (s := sB)]
        by_cases ej : j = k
        · rw [if_pos (by omega), ej]
        · rw [if_neg (by omega)]; exact i14 j (by omega)

/-- what making room leaves alone -/
def NF (M M1 : Mem) : Prop := mI M1 11 0 4 = mI M 11 0 4 ∧ (∀ k, mI M1 105 0 k = mI M 105 0 k) ∧ mL M1 105 0 = mL M 105 0 ∧ (∀ i k, mI M1 402 i k = mI M 402 i k) ∧ ∀ i, mL M1 402 i = mL M 402 i
theorem NF.trans {M M1 M2 : Mem} (h : NF M M1) (h1 : NF M1 M2) : NF M M2 :=
  ⟨h1.1.trans h.1, fun k => (h1.2.1 k).trans (h.2.1 k), h1.2.2.1.trans h.2.2.1, fun i k => (h1.2.2.2.1 i k).trans (h.2.2.2.1 i k), fun i => (h1.2.2.2.2 i).trans (h.2.2.2.2 i)⟩
theorem NF.roomy {M M1 : Mem} {k : Nat} {v : Option (Nat × Nat)} (h : Fr F_Model_roomy M M1) : NF M (sR M1 11 0 k v) :=
  ⟨h.I (f := 11) (k := 4) rfl 0, h.Ia (f := 105) rfl rfl 0, h.L (f := 105) rfl 0, h.Ia (f := 402) rfl rfl, h.L (f := 402) rfl⟩
theorem NF.room {M M1 : Mem} {k : Nat} {v : Option (Nat × Nat)} (h : Fr F_Model_room M M1) : NF M (sR M1 11 0 k v) :=
  ⟨h.I (f := 11) (k := 4) rfl 0, h.Ia (f := 105) rfl rfl 0, h.L (f := 105) rfl 0, h.Ia (f := 402) rfl rfl, h.L (f := 402) rfl⟩
theorem c_nameIn_L55 {hT : Nm → Nat} (hlt : ∀ x, hT x < 4096) {A : List Nm} {G : List Sl} {M : Mem} {nm : Nm} {r f : Nat} {Q : Int32 → Mem → Prop} (hG : Gok G) (hGs : sB ∈ G ∧ sZ ∈ G ∧ sX ∈ G) (hob : ∀ s ∈ G, s.1 < 20 ∧ 300 ≤ s.2.2.2 ∧ s.2.2.2 ≠ 402) (hTG : TG G M) (hN : TN hT A M) (hlen : A.length < 100000) (hn : okn nm) (hr : Row M r f nm)
    (hQ : ∀ M', TN hT (ins A nm) M' → GF G X3 M M' → Q (Int32.ofNat (A.idxOf nm)) M') :
    ∀ n m, m < n → m ≤ A.length → (∀ j, m ≤ j → j < A.length → gn A j ≠ nm) →
      w_Model_nameIn_L55 0 Q n r (Int32.ofNat f) (Int32.ofNat nm.length) (Int32.ofNat (hT nm)) (last (fun j => hT (gn A j) == hT nm) m + 1) M := by
  have hl := hn.1
  have hob' : ∀ s ∈ G, s.1 < 20 := fun s hs => (hob s hs).1
  obtain ⟨⟨n1, n2, n3, n4, n5, n6, n7, n8, n9⟩, ⟨n10, n11⟩, n12, n13⟩ := id hN
  have hBr : mR M 11 0 0 = some (401, rdI M sB) := (hTG sB hGs.1).1.1
  have hXr : mR M 11 0 2 = some (300, rdI M sX) := (hTG sX hGs.2.2).1.1
  intro n
  induction n with
  | zero => intro m hm; omega
  | succ n ih =>
    intro m hm hml hno
    unfold w_Model_nameIn_L55
    rcases last_cases (fun j => hT (gn A j) == hT nm) m with ⟨e, q⟩ | ⟨k, hk, e, q1, q2⟩
    · rw [e]
      refine itp (by decide) ⟨_, hBr, ?_⟩
      have hnot : nm ∉ A := by
        intro hx
        obtain ⟨j, hj, ej⟩ := mem_gn hx
        by_cases hjm : j < m
        · have := q j hjm; rw [ej] at this; simp at this
        · exact hno j (by omega) hj ej
      have hidx : A.idxOf nm = A.length := List.idxOf_eq_length hnot
      rw [n1, lit32 1, oN_add, lit32 12, oN_mul]
      refine mf_w_Model_roomy (fun i7 M6 hf6 hp6 => ?_) (c_roomy (s := sB) (X := [sB]) (Q := fun i M' => Gr1 G [sB] sB (12 * (A.length + 1)) M (sR M' 11 0 0 (some (401, i)))) hG hob' hTG hGs.1 (by simp) rfl (by omega) (by omega) (fun i M' h => h))
      have g1 := NF.roomy (k := 0) (v := some (401, i7)) hf6
      obtain ⟨p1, p2, p3, p4, p5⟩ := hp6
      generalize sR M6 11 0 0 (some (401, i7)) = M1 at g1 p1 p2 p3 p4 p5 ⊢
      have hZr : mR M1 11 0 1 = some (401, rdI M1 sZ) := (p1.1 sZ hGs.2.1).1.1
      refine ⟨_, hZr, ?_⟩
      rw [g1.1, n1, oN_add]
      obtain ⟨pZ, pZl, -⟩ := p1.2.1 sZ hGs.2.1 (by decide)
      obtain ⟨pX, pXl, -⟩ := p1.2.1 sX hGs.2.2 (by decide)
      refine mf_w_Model_roomy (fun i10 M9 hf9 hp9 => ?_) (c_roomy (s := sZ) (X := [sZ]) (Q := fun i M' => Gr1 G [sZ] sZ (A.length + 1) M1 (sR M' 11 0 1 (some (401, i)))) hG hob' p1.1 hGs.2.1 (by simp) rfl (by omega) (by omega) (fun i M' h => h))
      have g2 := NF.roomy (k := 1) (v := some (401, i10)) hf9
      obtain ⟨t1, t2, t3, t4, t5⟩ := hp9
      generalize sR M9 11 0 1 (some (401, i10)) = M2 at g2 t1 t2 t3 t4 t5 ⊢
      have hXr2 : mR M2 11 0 2 = some (300, rdI M2 sX) := (t1.1 sX hGs.2.2).1.1
      refine ⟨_, hXr2, ?_⟩
      rw [g2.1, g1.1, n1, oN_add]
      obtain ⟨tB, tBl, -⟩ := t1.2.1 sB hGs.1 (by decide)
      obtain ⟨tX, tXl, -⟩ := t1.2.1 sX hGs.2.2 (by decide)
      refine mf_w_Model_room (fun i13 M12 hf12 hp12 => ?_) (c_room (s := sX) (X := [sX]) (Q := fun i M' => Gr1 G [sX] sX (A.length + 1) M2 (sR M' 11 0 2 (some (300, i)))) hG hob' t1.1 hGs.2.2 (by simp) rfl (by omega) (by omega) (fun i M' h => h))
      have g3 := NF.room (k := 2) (v := some (300, i13)) hf12
      obtain ⟨u1, u2, u3, u4, u5⟩ := hp12
      generalize sR M12 11 0 2 (some (300, i13)) = M3 at g3 u1 u2 u3 u4 u5 ⊢
      obtain ⟨uB, uBl, -⟩ := u1.2.1 sB hGs.1 (by decide)
      obtain ⟨uZ, uZl, -⟩ := u1.2.1 sZ hGs.2.1 (by decide)
      have g := (g1.trans g2).trans g3
      refine ⟨nm.length + 1, c_nameIn_L150 (M0 := M) hlt hGs hob hlen ⟨n10, n11⟩ hn hnot (fun M' h1 h2 => ?_) _ 0 M3 (by omega) (by omega) ⟨((p1.sub (by simp)).trans (t1.sub (by simp))).trans (u1.sub (by simp)), ⟨g.1.trans n1, g.2.2.1.trans n3, by omega, by omega, by omega, ?_, ?_, ?_⟩, fun x hx => ?_, fun h hh => ?_, ⟨?_, hr.2.1, fun k hk => ?_⟩, fun j hj => by omega⟩⟩
      · rw [hidx] at hQ
        exact hQ M' (by unfold ins; rw [if_neg hnot]; exact h1) h2
      · rw [uBl, tBl]
        by_cases c : 12 * (A.length + 1) ≤ rl M sB
        · rw [(p4 c).1]; omega
        · rw [(p5 (by omega)).1]; omega
      · rw [uZl]
        by_cases c : A.length + 1 ≤ rl M1 sZ
        · rw [(t4 c).1]; omega
        · rw [(t5 (by omega)).1]; omega
      · by_cases c : A.length + 1 ≤ rl M2 sX
        · rw [(u4 c).1]; omega
        · rw [(u5 (by omega)).1]; omega
      · obtain ⟨y1, y2, y3⟩ := n12 x hx
        have hxl := (n11 _ (gn_mem hx)).1
        refine ⟨?_, fun j hj => ?_, ?_⟩
        · rw [uZ, t3 x (by omega), pZ]; exact y1
        · rw [uB, tB, p3 _ (by omega)]; exact y2 j hj
        · rw [u3 x (by omega), tX, pX]; exact y3
      · rw [g.2.1]; exact n13 h hh
      · rw [g.2.2.2.2]; exact hr.1
      · rw [g.2.2.2.1]; exact hr.2.2 k hk
    · rw [e, lit32 1, oN_add]
      have hkL : k < A.length := by omega
      refine itn (nle_oN (b := 0) (by omega) (by omega)) ?_
      rw [oN_sub (by omega), Nat.add_sub_cancel]
      refine c_isName hTG hGs hN hkL hl hr ?_
      by_cases ex : gn A k = nm
      · refine itn (by rw [decide_eq_true ex]; decide) ?_
        have := hQ M (by unfold ins; rw [if_pos (ex ▸ gn_mem hkL)]; exact hN) (GF.rf hTG)
        rw [← ex, idx_gn n10 hkL] at this
        exact this
      · refine itp (by rw [decide_eq_false ex]; decide) ⟨_, hXr, ?_⟩
        rw [oN_tnc (by omega)]
        refine ⟨(vp_oN (by omega)).mpr (show _ < rl M sX by omega), ?_⟩
        have e3 : mI M 300 (rdI M sX) k = _ := (n12 k hkL).2.2
        rw [e3]
        have hh : hT (gn A k) = hT nm := by simpa using q1
        rw [hh]
        refine ih k (by omega) (by omega) (fun j hj hjL => ?_)
        by_cases hjk : j = k
        · subst hjk; exact ex
        · by_cases hjm : j < m
          · intro ej
            have := q2 j (by omega) hjm
            rw [ej] at this; simp at this
          · exact hno j (by omega) hjL
theorem c_nameIn {A : List Nm} {G : List Sl} {M : Mem} {nm : Nm} {r f : Nat} {Q : Int32 → Mem → Prop} (hG : Gok G) (hGs : sB ∈ G ∧ sZ ∈ G ∧ sX ∈ G) (hob : ∀ s ∈ G, s.1 < 20 ∧ 300 ≤ s.2.2.2 ∧ s.2.2.2 ≠ 402) (hTG : TG G M) (hN : TN hT A M) (hlen : A.length < 100000) (hn : okn nm) (hr : Row M r f nm)
    (hQ : ∀ M', TN hT (ins A nm) M' → GF G X3 M M' → Q (Int32.ofNat (A.idxOf nm)) M') : w_Model_nameIn 0 r (Int32.ofNat f) (Int32.ofNat nm.length) Q M := by
  have hl := hn.1
  obtain ⟨hr1, hr2, hr3⟩ := id hr
  have h105 : mL M 105 0 = 4096 := hN.1.2.2.1
  have main : ∀ d k, nm.length - k < d → k ≤ nm.length → w_Model_nameIn_L6 0 Q d r (Int32.ofNat f) (Int32.ofNat nm.length) (sumT nm k) (Int32.ofNat k) M := by
    intro d
    induction d with
    | zero => intro k h; omega
    | succ d ih =>
      intro k hd hk
      unfold w_Model_nameIn_L6
      by_cases e : k = nm.length
      · refine itp (le_oN (by omega) (by omega)) ⟨_, rfl, ?_⟩
        subst e
        have eh := (hT_eq nm).2
        have hlt := (hT_eq nm).1
        unfold hashT at eh
        rw [eh, oN_tnc (by omega)]
        refine ⟨(vp_oN (by omega)).mpr (by omega), A.length + 1, ?_⟩
        rw [hN.2.2.2 _ hlt]
        exact c_nameIn_L55 (fun x => (hT_eq x).1) hG hGs hob hTG hN hlen hn hr hQ _ _ (by omega) (Nat.le_refl _) (fun j a b => by omega)
      · refine itn (nle_oN (by omega) (by omega)) ?_
        rw [oN_add, oN_tnc (by omega), hr3 k (by omega), lit32 1, oN_add]
        exact ⟨(vp_oN (by omega)).mpr (by omega), _, rfl, ih (k + 1) (by omega) (by omega)⟩
  unfold w_Model_nameIn
  exact ⟨nm.length + 1, main _ 0 (by omega) (by omega)⟩

/-! B: the words of a line -/
def tksF (p : Nat → Int32) (n : Nat) : Nat → Nat → List Tok
  | 0, _ => []
  | f + 1, a => if (lex p n a).1.1 ≤ 1 then [(lex p n a).1] else (lex p n a).1 :: tksF p n f (lex p n a).2
/-- the words from a place on, up to the end or the first that is none -/
def tks (p : Nat → Int32) (n a : Nat) : List Tok := tksF p n (n + 2 - a) a
/-- a word as it can be -/
def okT (n : Nat) (t : Tok) : Prop := t.2.2.2 ≤ n + 1 ∧ t.1 < 100 ∧ (t.1 = 2 → okn t.2.1 ∧ t.2.1 ≠ [] ∧ t.2.1 ≠ nMake ∧ t.2.1 ≠ nStart) ∧ (t.1 = 3 → t.2.1 = nMake ∨ t.2.1 = nStart)
theorem pref_lt {p : Nat → Int32} {n k : Nat} {nm : Nm} (hp : tend p n) (hn : ∀ i, i < nm.length → gb0 nm i ≠ 10) (h : pref p k nm = true) (hl : 0 < nm.length) : k + nm.length ≤ n := by
  refine Nat.le_of_not_lt (fun q => ?_)
  have h1 := pref_iff.mp h (nm.length - 1) (by omega)
  rw [hp _ (by omega)] at h1
  exact hn _ (by omega) h1.symm
theorem isL_ne {b : Int32} (h : isLt b = true) : b ≠ 60 := fun e => by rw [e] at h; exact absurd h (by decide)
theorem lexN_ok {p : Nat → Int32} {n k : Nat} {less : Bool} (hp : tend p n) (hk : k < n) : (lexN p n k less = ((1, [], 0, k), k)) ∨ ∃ v, lexN p n k less = ((4, [], v, k), scn isD p n (if less then k + 1 else k)) ∧ k < scn isD p n (if less then k + 1 else k) ∧ scn isD p n (if less then k + 1 else k) ≤ n := by
  obtain ⟨s1, s2, s3, s4⟩ := scn_spec hp isD10 (if less then k + 1 else k)
  unfold lexN
  simp only []
  generalize hf : (if less = true then k + 1 else k) = f at s1 s2 s3 s4 ⊢
  have hfk : k ≤ f ∧ f ≤ k + 1 := by rw [← hf]; split <;> omega
  by_cases c1 : 1 ≤ scn isD p n f - f ∧ scn isD p n f - f ≤ 10
  · rw [if_pos c1]
    generalize (if less = true then -nvl p f (scn isD p n f - f) else nvl p f (scn isD p n f - f)) = w
    split
    · exact Or.inl rfl
    · exact Or.inr ⟨_, rfl, by omega, by omega⟩
  · rw [if_neg c1]; exact Or.inl rfl
theorem okT_of {n kd pl : Nat} {nm : Nm} {v : Int32} (h1 : pl ≤ n + 1) (h2 : kd < 100) (h3 : kd = 2 → okn nm ∧ nm ≠ [] ∧ nm ≠ nMake ∧ nm ≠ nStart) (h4 : kd = 3 → nm = nMake ∨ nm = nStart) : okT n (kd, nm, v, pl) := ⟨h1, h2, h3, h4⟩
theorem nMake10 : ∀ i, i < nMake.length → gb0 nMake i ≠ 10 := by decide
theorem nStart10 : ∀ i, i < nStart.length → gb0 nStart i ≠ 10 := by decide
theorem lex1_ok {p : Nat → Int32} {n k : Nat} (hp : tend p n) (hk : k ≤ n + 1) : ∃ kd nm v pl nx, lex1 p n k = ((kd, nm, v, pl), nx) ∧ okT n (kd, nm, v, pl) ∧ (1 < kd → pl = k ∧ k < nx ∧ nx ≤ n) ∧ (kd = 1 → pl = k ∧ nx = k) := by
  have bad : lex1 p n k = ((1, [], 0, k), k) → ∃ kd nm v pl nx, lex1 p n k = ((kd, nm, v, pl), nx) ∧ okT n (kd, nm, v, pl) ∧ (1 < kd → pl = k ∧ k < nx ∧ nx ≤ n) ∧ (kd = 1 → pl = k ∧ nx = k) := fun e =>
    ⟨1, [], 0, k, k, e, okT_of hk (by decide) (fun q => by cases q) (fun q => by cases q), fun q => absurd q (by decide), fun _ => ⟨rfl, rfl⟩⟩
  by_cases c1 : p k = 35 ∨ p k = 10
  · have e : lex1 p n k = ((0, [], 0, scn (fun b => b != 10) p n k), k) := if_pos c1
    obtain ⟨s1, s2, s3, s4⟩ := scn_spec (q := fun b => b != 10) hp (by decide) k
    exact ⟨_, _, _, _, _, e, okT_of (by omega) (by decide) (fun q => by cases q) (fun q => by cases q), fun q => absurd q (by decide), fun q => by cases q⟩
  have hkn : k < n := Nat.lt_of_not_le (fun q => c1 (Or.inr (hp k q)))
  by_cases c2 : isLt (p k) = true
  · obtain ⟨s1, s2, s3, s4⟩ := scn_spec hp isW10 k
    have hgt : k < scn isW p n k := by
      refine Nat.lt_of_le_of_ne s1 (fun q => ?_)
      rw [← q] at s4
      unfold isW at s4; rw [c2] at s4; cases s4
    by_cases c3 : scn isW p n k - k ≤ 12
    · have e : lex1 p n k = ((2, bytes p k (scn isW p n k), 0, k), scn isW p n k) := by unfold lex1; rw [if_neg c1, if_pos c2, if_pos c3]
      have h0 : gb0 (bytes p k (scn isW p n k)) 0 = p k := bytes_get (by omega)
      have ne : ∀ m : Nm, gb0 m 0 = 60 → bytes p k (scn isW p n k) ≠ m := fun m hm q => by
        rw [q, hm] at h0; exact isL_ne c2 h0.symm
      refine ⟨_, _, _, _, _, e, okT_of hk (by decide) (fun _ => ⟨okn_bytes c3 s3, fun q => ?_, ne _ rfl, ne _ rfl⟩) (fun q => by cases q), fun _ => ⟨rfl, hgt, by omega⟩, fun q => by cases q⟩
      have : (bytes p k (scn isW p n k)).length = 0 := by rw [q]; rfl
      rw [bytes_len] at this; omega
    · exact bad (by unfold lex1; rw [if_neg c1, if_pos c2, if_neg c3])
  by_cases c3 : (isD (p k) || p k == 45) = true
  · have e : lex1 p n k = lexN p n k (p k == 45) := by unfold lex1; rw [if_neg c1, if_neg c2, if_pos c3]
    rcases lexN_ok (less := p k == 45) hp hkn with h | ⟨v, h, h1, h2⟩
    · exact bad (e.trans h)
    · exact ⟨_, _, _, _, _, e.trans h, okT_of hk (by decide) (fun q => by cases q) (fun q => by cases q), fun _ => ⟨rfl, h1, h2⟩, fun q => by cases q⟩
  by_cases c4 : p k = 60
  · have e : lex1 p n k = (if pref p k nMake then ((3, nMake, 0, k), k + 6) else if pref p k nStart then ((3, nStart, 0, k), k + 7) else ((1, [], 0, k), k)) := by
      unfold lex1; rw [if_neg c1, if_neg c2, if_neg c3, if_pos c4]
    by_cases h1 : pref p k nMake = true
    · have := pref_lt (nm := nMake) hp nMake10 h1 (by decide)
      exact ⟨_, _, _, _, _, e.trans (if_pos h1), okT_of hk (by decide) (fun q => by cases q) (fun _ => Or.inl rfl), fun _ => ⟨rfl, by omega, this⟩, fun q => by cases q⟩
    · by_cases h2 : pref p k nStart = true
      · have := pref_lt (nm := nStart) hp nStart10 h2 (by decide)
        exact ⟨_, _, _, _, _, e.trans ((if_neg h1).trans (if_pos h2)), okT_of hk (by decide) (fun q => by cases q) (fun _ => Or.inr rfl), fun _ => ⟨rfl, by omega, this⟩, fun q => by cases q⟩
      · exact bad (e.trans ((if_neg h1).trans (if_neg h2)))
  by_cases c5 : isSg (p k) = true
  · have e : lex1 p n k = (((p k).toNatClampNeg, [], 0, k), k + 1) := by
      unfold lex1; rw [if_neg c1, if_neg c2, if_neg c3, if_neg c4, if_pos c5]
    have hc : (p k).toNatClampNeg < 100 ∧ 5 < (p k).toNatClampNeg := by
      rcases isSg_cases c5 with h | h | h | h | h | h | h <;> (rw [h]; decide)
    exact ⟨_, _, _, _, _, e, okT_of hk hc.1 (fun q => by omega) (fun q => by omega), fun _ => ⟨rfl, by omega, by omega⟩, fun q => by omega⟩
  · exact bad (by unfold lex1; rw [if_neg c1, if_neg c2, if_neg c3, if_neg c4, if_neg c5])
theorem lex_ok {p : Nat → Int32} {n a : Nat} (hp : tend p n) (ha : a ≤ n + 1) : okT n (lex p n a).1 ∧ (1 < (lex p n a).1.1 → a < (lex p n a).2 ∧ (lex p n a).2 ≤ n) := by
  obtain ⟨s1, s2, s3, s4⟩ := scn_spec (q := fun b => b == 32) hp (by decide) a
  unfold lex
  obtain ⟨kd, nm, v, pl, nx, e, h1, h2, h3⟩ := lex1_ok (k := scn (fun b => b == 32) p n a) hp (by omega)
  rw [e]
  exact ⟨h1, fun q => ⟨by have := h2 q; show a < nx; omega, (h2 q).2.2⟩⟩
theorem tksF_more {p : Nat → Int32} {n : Nat} (hp : tend p n) : ∀ f g a, a ≤ n + 1 → n + 2 - a ≤ f → n + 2 - a ≤ g → tksF p n f a = tksF p n g a := by
  intro f
  induction f with
  | zero => intro g a h1 h2; omega
  | succ f ih =>
    intro g a h1 h2 h3
    obtain ⟨g, rfl⟩ : ∃ g', g = g' + 1 := ⟨g - 1, by omega⟩
    unfold tksF
    by_cases c : (lex p n a).1.1 ≤ 1
    · rw [if_pos c, if_pos c]
    · rw [if_neg c, if_neg c]
      obtain ⟨q1, q2⟩ := (lex_ok hp h1).2 (by omega)
      rw [ih g _ (by omega) (by omega) (by omega)]
theorem tks_eq {p : Nat → Int32} {n a : Nat} (hp : tend p n) (ha : a ≤ n + 1) : tks p n a = if (lex p n a).1.1 ≤ 1 then [(lex p n a).1] else (lex p n a).1 :: tks p n (lex p n a).2 := by
  unfold tks
  obtain ⟨f, hf⟩ : ∃ f, n + 2 - a = f + 1 := ⟨n + 1 - a, by omega⟩
  rw [hf]
  show (if _ then _ else _) = _
  by_cases c : (lex p n a).1.1 ≤ 1
  · rw [if_pos c, if_pos c]
  · rw [if_neg c, if_neg c]
    obtain ⟨q1, q2⟩ := (lex_ok hp ha).2 (by omega)
    rw [tksF_more hp f _ _ (by omega) (by omega) (Nat.le_refl _)]
theorem tks_ok {p : Nat → Int32} {n : Nat} (hp : tend p n) : ∀ d a, n + 2 - a ≤ d → a ≤ n + 1 → ∀ t ∈ tks p n a, okT n t := by
  intro d
  induction d with
  | zero => intro a h1 h2; omega
  | succ d ih =>
    intro a h1 h2 t ht
    rw [tks_eq hp h2] at ht
    by_cases c : (lex p n a).1.1 ≤ 1
    · rw [if_pos c] at ht; simp at ht; rw [ht]; exact (lex_ok hp h2).1
    · rw [if_neg c] at ht
      rcases List.mem_cons.mp ht with e | e
      · rw [e]; exact (lex_ok hp h2).1
      · obtain ⟨q1, q2⟩ := (lex_ok hp h2).2 (by omega)
        exact ih _ (by omega) (by omega) t e
theorem lex_blank {p : Nat → Int32} {n a : Nat} (hp : tend p n) (h : p a = 32) : lex p n a = lex p n (a + 1) := by
  unfold lex; rw [(scn_t (q := fun b => b == 32) hp (by decide) (k := a) (by simp [h])).2]
theorem lex_word {p : Nat → Int32} {n a : Nat} (h : p a ≠ 32) : lex p n a = lex1 p n a := by
  unfold lex; rw [scn_f (q := fun b => b == 32) (by simp [h])]
/-- with what the twin lays behind the words of a line -/
def full (to : Nat) (ts : List Tok) : List Tok := if (ts.getLastD (0, [], 0, 0)).1 = 1 then ts ++ [(0, [], 0, to)] else ts

/-! B: the twin's words -/
theorem ct_isDigit {b : Int32} {Q : Int32 → Mem → Prop} {M : Mem} (h : Q (b2 (isD b)) M) : w_Model_isDigit b Q M := by
  unfold w_Model_isDigit
  unfold b2 isD at h
  by_cases h1 : b < 48
  · refine itp h1 ?_
    rw [decide_eq_false (fun q => absurd q.1 (by rw [Int32.le_iff_toInt_le]; rw [Int32.lt_iff_toInt_lt] at h1; omega))] at h; exact h
  · refine itn h1 ?_
    by_cases h2 : 57 < b
    · refine itp h2 ?_
      rw [decide_eq_false (fun q => absurd q.2 (by rw [Int32.le_iff_toInt_le]; rw [Int32.lt_iff_toInt_lt] at h2; omega))] at h; exact h
    · refine itn h2 ?_
      rw [decide_eq_true ⟨by rw [Int32.le_iff_toInt_le]; rw [Int32.lt_iff_toInt_lt] at h1; omega, by rw [Int32.le_iff_toInt_le]; rw [Int32.lt_iff_toInt_lt] at h2; omega⟩] at h; exact h
theorem nlt32 {a b : Int32} : ¬ a < b ↔ b ≤ a := by rw [Int32.le_iff_toInt_le, Int32.lt_iff_toInt_lt]; omega
theorem nle32 {a b : Int32} : ¬ a ≤ b ↔ b < a := by rw [Int32.le_iff_toInt_le, Int32.lt_iff_toInt_lt]; omega
theorem ct_isLetter {b : Int32} {Q : Int32 → Mem → Prop} {M : Mem} (h : Q (b2 (isLt b)) M) : w_Model_isLetter b Q M := by
  unfold w_Model_isLetter
  unfold b2 isLt at h
  have j24 : ¬ (97 ≤ b ∧ b ≤ 122) → ¬ (65 ≤ b ∧ b ≤ 90) → w_Model_isLetter_j24 Q b M := fun h1 h2 => by
    unfold w_Model_isLetter_j24
    by_cases h3 : b = 95
    · refine itp h3 ?_; rw [decide_eq_true (Or.inr (Or.inr h3))] at h; exact h
    · refine itn h3 ?_; rw [decide_eq_false (by rintro (q | q | q); exact h1 q; exact h2 q; exact h3 q)] at h; exact h
  have j12 : ¬ (97 ≤ b ∧ b ≤ 122) → w_Model_isLetter_j12 Q b M := fun h1 => by
    unfold w_Model_isLetter_j12
    by_cases h2 : b < 65
    · exact itp h2 (j24 h1 (fun q => absurd q.1 (nle32.mpr h2)))
    · refine itn h2 ?_
      by_cases h3 : b ≤ 90
      · refine itp h3 ?_; rw [decide_eq_true (Or.inr (Or.inl ⟨nlt32.mp h2, h3⟩))] at h; exact h
      · exact itn h3 (j24 h1 (fun q => h3 q.2))
  by_cases h1 : b < 97
  · exact itp h1 (j12 (fun q => absurd q.1 (nle32.mpr h1)))
  · refine itn h1 ?_
    by_cases h2 : b ≤ 122
    · refine itp h2 ?_; rw [decide_eq_true (Or.inl ⟨nlt32.mp h1, h2⟩)] at h; exact h
    · exact itn h2 (j12 (fun q => h2 q.2))
/-- a text in a row of the twin -/
def TXt (r n : Nat) (p : Nat → Int32) (M : Mem) : Prop := n ≤ mL M 402 r ∧ n ≤ 6000 ∧ (∀ k, k < n → mI M 402 r k = p k) ∧ tend p n
def tokT (A : List Nm) (t : Tok) (kb v pl : Int32) : Prop := kb = Int32.ofNat t.1 ∧ pl = Int32.ofNat t.2.2.2 ∧ ((t.1 = 2 ∨ t.1 = 3) → v = Int32.ofNat (A.idxOf t.2.1) ∧ t.2.1 ∈ A) ∧ (t.1 = 4 → v = t.2.2.1)
abbrev gt (ts : List Tok) (i : Nat) : Tok := ts.getD i (0, [], 0, 0)
/-- the words that were laid -/
def WA (A : List Nm) (ts : List Tok) (M : Mem) : Prop := mI M 11 0 42 = Int32.ofNat ts.length ∧ (mL M 411 0 = 6002 ∧ mL M 107 0 = 6002 ∧ mL M 108 0 = 6002) ∧ ∀ i, i < ts.length → tokT A (gt ts i) (mI M 411 0 i) (mI M 107 0 i) (mI M 108 0 i)
theorem idx_pre {A A' : List Nm} (h : A <+: A') {x : Nm} (hx : x ∈ A) : A'.idxOf x = A.idxOf x := by
  obtain ⟨B, rfl⟩ := h
  rw [List.idxOf_append, if_pos hx]
theorem tokT.pre {A A' : List Nm} (h : A <+: A') {t : Tok} {kb v pl : Int32} (ht : tokT A t kb v pl) : tokT A' t kb v pl :=
  ⟨ht.1, ht.2.1, fun q => by rw [idx_pre h (ht.2.2.1 q).2]; exact ⟨(ht.2.2.1 q).1, h.subset (ht.2.2.1 q).2⟩, ht.2.2.2⟩
theorem WA.pre {A A' : List Nm} {ts : List Tok} {M : Mem} (hp : A <+: A') (h : WA A ts M) : WA A' ts M := ⟨h.1, h.2.1, fun i hi => (h.2.2 i hi).pre hp⟩
theorem WA.of {A : List Nm} {ts : List Tok} {M M' : Mem} (h : WA A ts M) (e1 : mI M' 11 0 42 = mI M 11 0 42) (e2 : ∀ k, mI M' 411 0 k = mI M 411 0 k) (e3 : ∀ k, mI M' 107 0 k = mI M 107 0 k) (e4 : ∀ k, mI M' 108 0 k = mI M 108 0 k)
    (l2 : mL M' 411 0 = mL M 411 0) (l3 : mL M' 107 0 = mL M 107 0) (l4 : mL M' 108 0 = mL M 108 0) : WA A ts M' :=
  ⟨e1.trans h.1, ⟨l2.trans h.2.1.1, l3.trans h.2.1.2.1, l4.trans h.2.1.2.2⟩, fun i hi => by rw [e2, e3, e4]; exact h.2.2 i hi⟩
theorem c_addWord {A : List Nm} {ts : List Tok} {t : Tok} {v : Int32} {Q : Mem → Prop} {M : Mem} (hW : WA A ts M) (hl : ts.length < 6002) (hk : t.1 < 128) (ht : tokT A t (Int32.ofNat t.1) v (Int32.ofNat t.2.2.2))
    (hQ : ∀ M', WA A (ts ++ [t]) M' → Q M') : w_Model_addWord 0 (Int32.ofNat t.1) v (Int32.ofNat t.2.2.2) Q M := by
  obtain ⟨w1, ⟨w2, w3, w4⟩, w5⟩ := hW
  have hv : vp_in (Int32.ofNat ts.length) 6002 := (vp_oN (by omega)).mpr hl
  unfold w_Model_addWord
  have e42 : ∀ a b c, mI (sI (sI (sI M 411 0 ts.length a) 107 0 ts.length b) 108 0 ts.length c) 11 0 42 = Int32.ofNat ts.length := fun _ _ _ => w1
  rw [w1, w2, b8_oN hk, b8_oN hk, oN_tnc (by omega)]
  refine ⟨hv, _, rfl, ?_⟩
  have e1 : mI (sI M 411 0 ts.length (Int32.ofNat t.1)) 11 0 42 = Int32.ofNat ts.length := w1
  have e2 : mI (sI (sI M 411 0 ts.length (Int32.ofNat t.1)) 107 0 ts.length v) 11 0 42 = Int32.ofNat ts.length := w1
  rw [e1, oN_tnc (by omega), e2, oN_tnc (by omega)]
  refine ⟨by show vp_in _ (mL M 107 0); rw [w3]; exact hv, by show vp_in _ (mL M 108 0); rw [w4]; exact hv, _, rfl, ?_⟩
  rw [e42, lit32 1, oN_add]
  refine hQ _ ⟨?_, ⟨w2, w3, w4⟩, fun i hi => ?_⟩
  · rw [List.length_append, List.length_singleton]; rfl
  · rw [List.length_append, List.length_singleton] at hi
    have x1 : mI (sI (sI (sI (sI M 411 0 ts.length (Int32.ofNat t.1)) 107 0 ts.length v) 108 0 ts.length (Int32.ofNat t.2.2.2)) 11 0 42 (Int32.ofNat (ts.length + 1))) 411 0 i = if i = ts.length then Int32.ofNat t.1 else mI M 411 0 i := by simp [mI_sI]
    have x2 : mI (sI (sI (sI (sI M 411 0 ts.length (Int32.ofNat t.1)) 107 0 ts.length v) 108 0 ts.length (Int32.ofNat t.2.2.2)) 11 0 42 (Int32.ofNat (ts.length + 1))) 107 0 i = if i = ts.length then v else mI M 107 0 i := by simp [mI_sI]
    have x3 : mI (sI (sI (sI (sI M 411 0 ts.length (Int32.ofNat t.1)) 107 0 ts.length v) 108 0 ts.length (Int32.ofNat t.2.2.2)) 11 0 42 (Int32.ofNat (ts.length + 1))) 108 0 i = if i = ts.length then Int32.ofNat t.2.2.2 else mI M 108 0 i := by simp [mI_sI]
    rw [x1, x2, x3]
    by_cases e : i = ts.length
    · subst e
      rw [if_pos rfl, if_pos rfl, if_pos rfl]
      have : gt (ts ++ [t]) ts.length = t := by simp [gt, List.getD_eq_getElem?_getD]
      rw [this]; exact ht
    · rw [if_neg e, if_neg e, if_neg e]
      have : gt (ts ++ [t]) i = gt ts i := by simp [gt, List.getD_eq_getElem?_getD, List.getElem?_append_left (show i < ts.length by omega)]
      rw [this]; exact w5 i (by omega)
theorem TN.of {hT : Nm → Nat} {A : List Nm} {M M' : Mem} (h : TN hT A M) (e1 : mI M' 11 0 4 = mI M 11 0 4) (e2 : mL M' 105 0 = mL M 105 0) (e3 : ∀ k, mI M' 105 0 k = mI M 105 0 k) (eB : ∀ k, rd M' sB k = rd M sB k) (eZ : ∀ k, rd M' sZ k = rd M sZ k) (eX : ∀ k, rd M' sX k = rd M sX k) (lB : rl M' sB = rl M sB) (lZ : rl M' sZ = rl M sZ) (lX : rl M' sX = rl M sX) : TN hT A M' := by
  obtain ⟨⟨n1, n2, n3, n4, n5, n6, n7, n8, n9⟩, n10, n12, n13⟩ := h
  exact ⟨⟨e1.trans n1, n2, e2.trans n3, lB ▸ n4, lZ ▸ n5, lX ▸ n6, lB ▸ n7, lZ ▸ n8, lX ▸ n9⟩, n10, fun k hk => by
    obtain ⟨a, b, c⟩ := n12 k hk
    exact ⟨(eZ k).trans a, fun j hj => (eB _).trans (b j hj), (eX k).trans c⟩, fun k hk => (e3 k).trans (n13 k hk)⟩

def L11 : List Nat := [0, 1, 2, 30, 31, 32, 33, 35, 55, 57, 58, 59, 61, 62, 63, 94, 114, 115]
def L12 : List Nat := [30, 31, 32, 33, 34, 36, 38, 39, 40, 42, 53, 54, 55, 58]
/-- slots of the twin -/
def Ga (G : List Sl) : Prop := Gok G ∧ (sB ∈ G ∧ sZ ∈ G ∧ sX ∈ G) ∧ ∀ s ∈ G, ((s.1 = 11 ∧ s.2.2.1 ∈ L11) ∨ (s.1 = 12 ∧ s.2.2.1 ∈ L12)) ∧ (s.2.2.2 = 300 ∨ s.2.2.2 = 401 ∨ s.2.2.2 = 501)
theorem Ga.ob {G : List Sl} (h : Ga G) : ∀ s ∈ G, s.1 < 20 ∧ 300 ≤ s.2.2.2 ∧ s.2.2.2 ≠ 402 := fun s hs => by
  obtain ⟨h1, h2⟩ := h.2.2 s hs
  refine ⟨?_, by omega, by omega⟩
  rcases h1 with q | q <;> omega
/-- no slot and no row of one is among what may change -/
def sOk (S : Nat) : Bool := L11.all (fun k => !S.testBit (cd 11 k)) && (L12.all (fun k => !S.testBit (cd 12 k)) && (!S.testBit 300 && (!S.testBit 401 && (!S.testBit 501 && (!S.testBit 5300 && (!S.testBit 5401 && (!S.testBit 5501 && !S.testBit 4999)))))))
theorem sOk.at {G : List Sl} {S : Nat} (hG : Ga G) (h : sOk S = true) {s : Sl} (hs : s ∈ G) : S.testBit (cd s.1 s.2.2.1) = false ∧ S.testBit s.2.2.2 = false ∧ S.testBit (5000 + s.2.2.2) = false ∧ S.testBit 4999 = false ∧ Nat.ble 20 s.2.2.2 = true := by
  unfold sOk at h
  simp only [Bool.and_eq_true, Bool.not_eq_true', List.all_eq_true] at h
  obtain ⟨h1, h2, h3, h4, h5, h6, h7, h8, h9⟩ := h
  obtain ⟨g1, g2⟩ := hG.2.2 s hs
  refine ⟨?_, ?_, ?_, h9, ?_⟩
  · rcases g1 with ⟨e, q⟩ | ⟨e, q⟩
    · rw [e]; exact h1 _ q
    · rw [e]; exact h2 _ q
  · rcases g2 with e | e | e
    · rw [e]; exact h3
    · rw [e]; exact h4
    · rw [e]; exact h5
  · rcases g2 with e | e | e
    · rw [e]; exact h6
    · rw [e]; exact h7
    · rw [e]; exact h8
  · rcases g2 with e | e | e <;> (rw [e]; rfl)
theorem GF.fr {G X : List Sl} {M0 M M' : Mem} {S : Nat} (h : GF G X M0 M) (hf : Fr S M M') (hG : Ga G) (hS : sOk S = true := by rfl) : GF G X M0 M' :=
  h.of (fun s hs => hf.R (sOk.at hG hS hs).1 _) (fun s hs i k => hf.Ia (sOk.at hG hS hs).2.2.2.2 (sOk.at hG hS hs).2.1 i k) (fun s hs i => hf.L (sOk.at hG hS hs).2.2.1 i) (hf.2.2.1 (sOk.at hG hS hG.2.1.1).2.2.2.1).1 (hf.2.2.1 (sOk.at hG hS hG.2.1.1).2.2.2.1).2
theorem rd_fr {G : List Sl} {M M' : Mem} {S : Nat} {s : Sl} (hf : Fr S M M') (hG : Ga G) (hS : sOk S = true) (hs : s ∈ G) : (∀ k, rd M' s k = rd M s k) ∧ rl M' s = rl M s := by
  have e : rdI M' s = rdI M s := by unfold rdI; rw [hf.R (sOk.at hG hS hs).1]
  refine ⟨fun k => ?_, ?_⟩
  · unfold rd; rw [e]; exact hf.Ia (sOk.at hG hS hs).2.2.2.2 (sOk.at hG hS hs).2.1 _ k
  · unfold rl; rw [e]; exact hf.L (sOk.at hG hS hs).2.2.1 _
theorem TN.fr {G : List Sl} {A : List Nm} {M M' : Mem} {S : Nat} (h : TN hT A M) (hf : Fr S M M') (hG : Ga G) (hS : sOk S = true := by rfl) (h1 : S.testBit (cd 11 4) = false := by rfl) (h2 : S.testBit 105 = false := by rfl) (h3 : S.testBit (5000 + 105) = false := by rfl) : TN hT A M' :=
  h.of (hf.I h1 0) (hf.L h3 0) (hf.Ia rfl h2 0) (rd_fr hf hG hS hG.2.1.1).1 (rd_fr hf hG hS hG.2.1.2.1).1 (rd_fr hf hG hS hG.2.1.2.2).1 (rd_fr hf hG hS hG.2.1.1).2 (rd_fr hf hG hS hG.2.1.2.1).2 (rd_fr hf hG hS hG.2.1.2.2).2
theorem TXt.fr {r n : Nat} {p : Nat → Int32} {M M' : Mem} {S : Nat} (h : TXt r n p M) (hf : Fr S M M') (h1 : S.testBit 402 = false := by rfl) (h2 : S.testBit (5000 + 402) = false := by rfl) : TXt r n p M' :=
  ⟨by rw [hf.L h2]; exact h.1, h.2.1, fun k hk => by rw [hf.Ia rfl h1]; exact h.2.2.1 k hk, h.2.2.2⟩
def TK (A : List Nm) (M : Mem) : Prop := (mI M 11 0 6 = Int32.ofNat (A.idxOf nMake) ∧ nMake ∈ A) ∧ mI M 11 0 7 = Int32.ofNat (A.idxOf nStart) ∧ nStart ∈ A
theorem TK.fr {A : List Nm} {M M' : Mem} {S : Nat} (h : TK A M) (hf : Fr S M M') (h1 : S.testBit (cd 11 6) = false := by rfl) (h2 : S.testBit (cd 11 7) = false := by rfl) : TK A M' :=
  ⟨⟨(hf.I h1 0).trans h.1.1, h.1.2⟩, (hf.I h2 0).trans h.2.1, h.2.2⟩
theorem TK.pre {A A' : List Nm} {M : Mem} (h : TK A M) (hp : A <+: A') : TK A' M :=
  ⟨⟨by rw [idx_pre hp h.1.2]; exact h.1.1, hp.subset h.1.2⟩, by rw [idx_pre hp h.2.2]; exact h.2.1, hp.subset h.2.2⟩
theorem WA.fr {A : List Nm} {ts : List Tok} {M M' : Mem} {S : Nat} (h : WA A ts M) (hf : Fr S M M') (h1 : S.testBit (cd 11 42) = false := by rfl) (h2 : S.testBit 411 = false := by rfl) (h3 : S.testBit 107 = false := by rfl) (h4 : S.testBit 108 = false := by rfl) (l2 : S.testBit (5000 + 411) = false := by rfl) (l3 : S.testBit (5000 + 107) = false := by rfl) (l4 : S.testBit (5000 + 108) = false := by rfl) : WA A ts M' :=
  h.of (hf.I h1 0) (hf.Ia rfl h2 0) (hf.Ia rfl h3 0) (hf.Ia rfl h4 0) (hf.L l2 0) (hf.L l3 0) (hf.L l4 0)
/-- and the twin stands at the first word -/
def TK2 (A : List Nm) (M : Mem) : Prop := TK A M ∧ mI M 11 0 43 = 0
theorem TK2.fr {A : List Nm} {M M' : Mem} {S : Nat} (h : TK2 A M) (hf : Fr S M M') (h1 : S.testBit (cd 11 6) = false := by rfl) (h2 : S.testBit (cd 11 7) = false := by rfl) (h3 : S.testBit (cd 11 43) = false := by rfl) : TK2 A M' := ⟨h.1.fr hf h1 h2, (hf.I h3 0).trans h.2⟩
theorem TK2.pre {A A' : List Nm} {M : Mem} (h : TK2 A M) (hp : A <+: A') : TK2 A' M := ⟨h.1.pre hp, h.2⟩
/-- while a line is cut -/
def TL (G : List Sl) (A : List Nm) (r n : Nat) (p : Nat → Int32) (ts : List Tok) (M0 M : Mem) : Prop := GF G X3 M0 M ∧ TN hT A M ∧ TXt r n p M ∧ WA A ts M ∧ TK2 A M
theorem c_addWordL {G : List Sl} {A : List Nm} {r n : Nat} {p : Nat → Int32} {ts : List Tok} {t : Tok} {v : Int32} {Q : Mem → Prop} {M0 M : Mem} (hG : Ga G) (hL : TL G A r n p ts M0 M) (hl : ts.length < 6002) (hk : t.1 < 128) (ht : tokT A t (Int32.ofNat t.1) v (Int32.ofNat t.2.2.2))
    (hQ : ∀ M', TL G A r n p (ts ++ [t]) M0 M' → Q M') : w_Model_addWord 0 (Int32.ofNat t.1) v (Int32.ofNat t.2.2.2) Q M := by
  obtain ⟨h1, h2, h3, h4, h5⟩ := hL
  refine mf_w_Model_addWord (fun M' hf hp => ?_) (c_addWord (Q := fun M' => WA A (ts ++ [t]) M') h4 hl hk ht (fun M' h => h))
  exact hQ M' ⟨h1.fr hf hG, h2.fr hf hG, h3.fr hf, hp, h5.fr hf⟩
theorem c_nameInL {G : List Sl} {A : List Nm} {r n k to : Nat} {p : Nat → Int32} {ts : List Tok} {Q : Int32 → Mem → Prop} {M0 M : Mem} (hG : Ga G) (hL : TL G A r n p ts M0 M) (hA : A.length < 100000) (hk : k ≤ to) (hto : to ≤ n) (hn : okn (bytes p k to))
    (hQ : ∀ M', TL G (ins A (bytes p k to)) r n p ts M0 M' → Q (Int32.ofNat (A.idxOf (bytes p k to))) M') : w_Model_nameIn 0 r (Int32.ofNat k) (Int32.ofNat (to - k)) Q M := by
  obtain ⟨h1, h2, h3, h4, h5⟩ := hL
  obtain ⟨x1, x2, x3, x4⟩ := id h3
  have hbl := bytes_len p k to
  have hr : Row M r k (bytes p k to) := ⟨by omega, by omega, fun i hi => by rw [bytes_get (by omega)]; exact x3 _ (by omega)⟩
  have := c_nameIn (Q := fun v M' => (TN hT (ins A (bytes p k to)) M' ∧ GF G X3 M M') ∧ v = Int32.ofNat (A.idxOf (bytes p k to))) hG.1 hG.2.1 hG.ob h1.1 h2 hA hn hr (fun M' a b => ⟨⟨a, b⟩, rfl⟩)
  rw [hbl] at this
  refine mf_w_Model_nameIn (fun v M' hf hp => ?_) this
  obtain ⟨⟨a, b⟩, c⟩ := hp
  subst c
  exact hQ M' ⟨h1.trans b, a, h3.fr hf, (h4.fr hf).pre (ins_pre _ _), (h5.fr hf).pre (ins_pre _ _)⟩

theorem int64_small {v : Int64} : (lg_cmp v v.toInt32.toInt64 = 0) ↔ ¬ (v < -2147483648 ∨ 2147483647 < v) := by
  rw [lg_cmp0]
  have e1 : (-2147483648 : Int64).toInt = -2147483648 := by decide
  have e2 : (2147483647 : Int64).toInt = 2147483647 := by decide
  rw [← Int64.toInt_inj, Int32.toInt_toInt64, Int64.toInt_toInt32, Int64.lt_iff_toInt_lt, Int64.lt_iff_toInt_lt, e1, e2]
  constructor
  · intro h
    have := Int.le_bmod (x := v.toInt) (m := 2 ^ 32) (by decide)
    have := Int.bmod_lt (x := v.toInt) (m := 2 ^ 32) (by decide)
    omega
  · intro h
    rw [Int.bmod_eq_of_le (by omega) (by omega)]
theorem tokT_o {A : List Nm} {t : Tok} {v : Int32} (h2 : t.1 ≠ 2) (h3 : t.1 ≠ 3) (h4 : t.1 ≠ 4) : tokT A t (Int32.ofNat t.1) v (Int32.ofNat t.2.2.2) :=
  ⟨rfl, rfl, fun q => absurd q (fun q => Or.elim q h2 h3), fun q => absurd q h4⟩
/-- a number's word, as both have it -/
theorem c_numberT {G : List Sl} {A : List Nm} {r n k to : Nat} {p : Nat → Int32} {ts : List Tok} {Q : Int32 → Mem → Prop} {M0 M : Mem} (hG : Ga G) (hL : TL G A r n p ts M0 M) (hl : ts.length < 6002) (hkt : k < to) (hto : to ≤ n) (hp10 : p to = 10) (hd : isD (p k) = true ∨ (p k = 45 ∧ isD (p (k + 1)) = true))
    (hQ : ∀ M', TL G A r n p (ts ++ [(lexN p n k (p k == 45)).1]) M0 M' → Q (Int32.ofNat (scn isD p n (if (p k == 45) then k + 1 else k))) M') : w_Model_number 0 r (Int32.ofNat k) (Int32.ofNat to) Q M := by
  obtain ⟨x1, x2, x3, x4⟩ := id hL.2.2.1
  have hk : mI M 402 r k = p k := x3 k (by omega)
  unfold w_Model_number
  rw [oN_tnc (by omega), hk]
  refine ⟨(vp_oN (by omega)).mpr (by omega), ?_⟩
  have main : ∀ less : Bool, less = (p k == 45) → w_Model_number_j13 0 Q r (Int32.ofNat k) (Int32.ofNat to) (b2 less) M := by
    intro less hless
    have ef : w_Model_number_j27 0 Q r (Int32.ofNat k) (Int32.ofNat to) (b2 less) (Int32.ofNat (if less then k + 1 else k)) M → w_Model_number_j13 0 Q r (Int32.ofNat k) (Int32.ofNat to) (b2 less) M := by
      unfold w_Model_number_j13
      cases less with
      | true => intro h; refine itn (by decide) ?_; rw [lit32 1, oN_add]; exact h
      | false => intro h; exact itp rfl h
    apply ef
    rw [← hless] at hQ
    have hdf : isD (p (if less then k + 1 else k)) = true := by
      rcases hd with h | ⟨h1, h2⟩
      · have : (p k == 45) = false := by
          cases h' : p k == 45 with
          | false => rfl
          | true => rw [beq_iff_eq.mp h'] at h; exact absurd h (by decide)
        rw [hless, this]; exact h
      · have : (p k == 45) = true := by simp [h1]
        rw [hless, this]; exact h2
    have hfk : k ≤ (if less then k + 1 else k) ∧ (if less then k + 1 else k) ≤ k + 1 := by split <;> omega
    have hlex : lexN p n k less = (if 1 ≤ scn isD p n (if less then k + 1 else k) - (if less then k + 1 else k) ∧ scn isD p n (if less then k + 1 else k) - (if less then k + 1 else k) ≤ 10 then (if (if less then - nvl p (if less then k + 1 else k) (scn isD p n (if less then k + 1 else k) - (if less then k + 1 else k)) else nvl p (if less then k + 1 else k) (scn isD p n (if less then k + 1 else k) - (if less then k + 1 else k))) < -2147483648 ∨ 2147483647 < (if less then - nvl p (if less then k + 1 else k) (scn isD p n (if less then k + 1 else k) - (if less then k + 1 else k)) else nvl p (if less then k + 1 else k) (scn isD p n (if less then k + 1 else k) - (if less then k + 1 else k))) then ((1, [], 0, k), k) else ((4, [], (if less then - nvl p (if less then k + 1 else k) (scn isD p n (if less then k + 1 else k) - (if less then k + 1 else k)) else nvl p (if less then k + 1 else k) (scn isD p n (if less then k + 1 else k) - (if less then k + 1 else k))).toInt32, k), scn isD p n (if less then k + 1 else k))) else ((1, [], 0, k), k)) := rfl
    rw [hlex] at hQ
    generalize (if less = true then k + 1 else k) = f at hQ hdf hfk ⊢
    obtain ⟨s1, s2, s3, s4⟩ := scn_spec x4 isD10 f
    have hft : f < to := Nat.lt_of_not_le (fun q => by
      have : f = to := by omega
      rw [this, hp10] at hdf; exact absurd hdf (by decide))
    have hst : scn isD p n f ≤ to := by
      refine Nat.le_of_not_lt (fun q => ?_)
      have := s3 to (by omega) q
      rw [hp10] at this; exact absurd this (by decide)
    generalize hst' : scn isD p n f = st at hQ s1 s2 s3 s4 hst
    have hgt : f < st := Nat.lt_of_le_of_ne s1 (fun q => by rw [← q, hdf] at s4; cases s4)
    have fin : ∀ w : Int64, (st - f ≤ 10 → w = if less then - nvl p f (st - f) else nvl p f (st - f)) → w_Model_number_j104 0 Q (Int32.ofNat k) (Int32.ofNat f) (Int32.ofNat st) w M := by
      intro w hw
      unfold w_Model_number_j104
      have wr : (¬ (st - f ≤ 10 ∧ ¬ (w < -2147483648 ∨ 2147483647 < w))) → w_Model_number_j130 0 Q (Int32.ofNat k) (Int32.ofNat st) w M := fun h => by
        unfold w_Model_number_j130 w_Model_number_j131
        refine itp rfl ?_
        unfold w_Model_number_j144
        refine c_addWordL (t := (1, [], 0, k)) hG hL hl (Nat.le_of_ble_eq_true rfl) (tokT_o (by simp) (by simp) (by simp)) (fun M' h' => hQ M' ?_)
        by_cases c : st - f ≤ 10
        · have cc : w < -2147483648 ∨ 2147483647 < w := Classical.byContradiction (fun q => h ⟨c, q⟩)
          rw [if_pos ⟨by omega, c⟩, ← hw c, if_pos cc]; exact h'
        · rw [if_neg (fun q => c q.2)]; exact h'
      by_cases c : st - f ≤ 10
      · rw [oN_sub s1]
        refine itn (nlt_oN (a := 10) c (by omega)) ?_
        by_cases c2 : lg_cmp w w.toInt32.toInt64 = 0
        · refine itp c2 ?_
          have c3 := int64_small.mp c2
          unfold w_Model_number_j131
          refine itn (by decide) ?_
          unfold w_Model_number_j144
          refine c_addWordL (t := (4, [], w.toInt32, k)) hG hL hl (Nat.le_of_ble_eq_true rfl) ⟨rfl, rfl, (fun q => absurd q (by simp)), (fun _ => rfl)⟩ (fun M' h' => hQ M' ?_)
          rw [if_pos ⟨by omega, c⟩, ← hw c, if_neg c3]; exact h'
        · exact itn c2 (wr (fun q => c2 (int64_small.mpr q.2)))
      · rw [oN_sub s1]
        exact itp (lt_oN (a := 10) (by omega) (by omega)) (wr (fun q => c q.1))
    have j91 : ∀ w : Int64, (st - f ≤ 10 → w = nvl p f (st - f)) → w_Model_number_j91 0 Q (Int32.ofNat k) (b2 less) (Int32.ofNat f) (Int32.ofNat st) w M := by
      intro w hw
      unfold w_Model_number_j91
      cases less with
      | true => exact itn (by decide) (fin _ (fun c => by rw [hw c]; rfl))
      | false => exact itp rfl (fin _ (fun c => by rw [hw c]; rfl))
    have loop : ∀ d j w, st - j < d → f ≤ j → j ≤ st → (j - f ≤ 10 → w = nvl p f (j - f)) → w_Model_number_L36 0 Q d r (Int32.ofNat k) (Int32.ofNat to) (b2 less) (Int32.ofNat f) (Int32.ofNat j) w M := by
      intro d
      induction d with
      | zero => intro j w h; omega
      | succ d ih =>
        intro j w hd hj1 hj2 hw
        unfold w_Model_number_L36
        by_cases ej : j = to
        · have : j = st := by omega
          subst this
          exact itp (le_oN (by omega) (by omega)) (j91 w hw)
        · refine itn (nle_oN (by omega) (by omega)) ?_
          rw [oN_tnc (by omega), x3 j (by omega)]
          refine ⟨(vp_oN (by omega)).mpr (by omega), ct_isDigit ?_⟩
          by_cases es : j = st
          · subst es
            rw [s4]
            exact itp (by decide) (j91 w hw)
          · rw [s3 j hj1 (by omega)]
            refine itn (by decide) ?_
            rw [oN_sub hj1]
            by_cases c : 10 ≤ j - f
            · refine itp (le_oN (a := 10) c (by omega)) ?_
              unfold w_Model_number_j83
              rw [lit32 1, oN_add]
              exact ih (j + 1) w (by omega) (by omega) (by omega) (fun q => by omega)
            · refine itn (nle_oN (a := 10) (by omega) (by omega)) ⟨(vp_oN (by omega)).mpr (by omega), ?_⟩
              unfold w_Model_number_j83
              rw [lit32 1, oN_add, x3 j (by omega)]
              refine ih (j + 1) _ (by omega) (by omega) (by omega) (fun q => ?_)
              rw [hw (by omega)]
              have e1 : j + 1 - f = (j - f) + 1 := by omega
              have e2 : f + (j - f) = j := by omega
              rw [e1]
              show _ = ((10 : Int64) * nvl p f (j - f) + (p (f + (j - f))).toInt64) - (48 : Int64)
              rw [e2]
    unfold w_Model_number_j27
    exact ⟨st - f + 1, loop _ f 0 (by omega) (by omega) (by omega) (fun _ => by rw [Nat.sub_self]; rfl)⟩
  by_cases c : p k = 45
  · exact itp c (main true (by simp [c]))
  · exact itn c (main false (by simp [c]))
theorem c_isTag {G : List Sl} {A : List Nm} {r n k to : Nat} {p : Nat → Int32} {ts : List Tok} {Q : Int32 → Mem → Prop} {M0 M : Mem} {nm : Nm} (hG : Ga G) (hL : TL G A r n p ts M0 M) (hnm : nm ∈ A) (h10 : ∀ i, i < nm.length → gb0 nm i ≠ 10) (hpos : 0 < nm.length) (hkt : k ≤ to) (hto : to ≤ n) (hp10 : p to = 10)
    (hQ : Q (b2 (pref p k nm)) M) : w_Model_isTag 0 (Int32.ofNat (A.idxOf nm)) r (Int32.ofNat k) (Int32.ofNat to) Q M := by
  obtain ⟨l1, l2, l3, l4, l5⟩ := id hL
  obtain ⟨x1, x2, x3, x4⟩ := id l3
  obtain ⟨⟨n1, n2, n3, n4, n5, n6, n7, n8, n9⟩, ⟨n10, n11⟩, n12, n13⟩ := id l2
  have hi := List.idxOf_lt_length_iff.mpr hnm
  have hg : gn A (A.idxOf nm) = nm := by simp [gn, List.getD_eq_getElem?_getD, List.getElem?_eq_getElem hi]
  have hlen := (n11 nm hnm).1
  have hZr : mR M 11 0 1 = some (401, rdI M sZ) := (l1.1 sZ hG.2.1.2.1).1.1
  have z1 : mI M 401 (rdI M sZ) (A.idxOf nm) = Int32.ofNat nm.length := by
    have := (n12 _ hi).1; rw [hg] at this; exact this
  unfold w_Model_isTag
  rw [oN_tnc (by omega)]
  refine ⟨_, hZr, (vp_oN (by omega)).mpr (show _ < rl M sZ by omega), ?_⟩
  rw [z1, oN_add]
  by_cases c : to < k + nm.length
  · refine itp (lt_oN c (by omega)) ?_
    have : pref p k nm = false := by
      cases h : pref p k nm with
      | false => rfl
      | true => have := pref_iff.mp h (to - k) (by omega); rw [show k + (to - k) = to by omega, hp10] at this; exact absurd this.symm (h10 _ (by omega))
    rw [this] at hQ; exact hQ
  · refine itn (nlt_oN (by omega) (by omega)) ⟨_, hZr, (vp_oN (by omega)).mpr (show _ < rl M sZ by omega), ?_⟩
    rw [z1]
    have hb : (bytes p k (k + nm.length)).length = nm.length := by rw [bytes_len]; omega
    have hr : Row M r k (bytes p k (k + nm.length)) := ⟨by omega, by omega, fun i hi => by rw [bytes_get (by omega)]; exact x3 _ (by omega)⟩
    rw [← hb]
    refine c_isName l1.1 hG.2.1 l2 hi (by omega) hr ?_
    have e : decide (gn A (A.idxOf nm) = bytes p k (k + nm.length)) = pref p k nm := by
      rw [hg]
      cases h : pref p k nm with
      | true =>
        refine decide_eq_true (ext_gb0 hb.symm (fun j hj => ?_))
        rw [bytes_get (by omega)]; exact (pref_iff.mp h j hj).symm
      | false =>
        refine decide_eq_false (fun q => ?_)
        have : pref p k nm = true := pref_iff.mpr (fun j hj => by
          have : gb0 (bytes p k (k + nm.length)) j = gb0 nm j := by rw [← q]
          rw [bytes_get (by omega)] at this; exact this)
        rw [h] at this; cases this
    rw [e]
    cases h : pref p k nm with
    | true => rw [h] at hQ; exact itn (by decide) hQ
    | false => rw [h] at hQ; exact itp (by decide) hQ

def foldT (A : List Nm) (ts : List Tok) : List Nm := ts.foldl insT A
theorem tks_ne {p : Nat → Int32} {n a : Nat} (hp : tend p n) (ha : a ≤ n + 1) : tks p n a ≠ [] := by
  rw [tks_eq hp ha]; split <;> simp
theorem full_cons {to : Nat} {t : Tok} {ts : List Tok} (h : ts ≠ []) : full to (t :: ts) = t :: full to ts := by
  unfold full
  have : (t :: ts).getLastD (0, [], 0, 0) = ts.getLastD (0, [], 0, 0) := by
    cases ts with
    | nil => exact absurd rfl h
    | cons a b => simp [List.getLastD]
  rw [this]
  split <;> simp
theorem c_cutEnd {G : List Sl} {A : List Nm} {r n to : Nat} {p : Nat → Int32} {ts : List Tok} {Q : Int32 → Mem → Prop} {M0 M : Mem} (hG : Ga G) (hL : TL G A r n p ts M0 M) (hl : ts.length < 6002)
    (hQ : ∀ M', TL G A r n p (ts ++ [(0, [], 0, to)]) M0 M' → Q (b2 (decide (0 < ts.length))) M') : w_Model_cutLine_j383 0 Q (Int32.ofNat to) M := by
  unfold w_Model_cutLine_j383
  rw [hL.2.2.2.1.1]
  by_cases c : ts.length = 0
  · refine itp (le_oN (b := 0) (by omega) (by decide)) ?_
    unfold w_Model_cutLine_j395
    refine c_addWordL (t := (0, [], 0, to)) hG hL hl (Nat.le_of_ble_eq_true rfl) (tokT_o (by simp) (by simp) (by simp)) (fun M' h => ⟨Or.inl rfl, ?_⟩)
    have := hQ M' h
    rw [decide_eq_false (by omega)] at this
    exact this
  · refine itn (nle_oN (b := 0) (by omega) (by omega)) ?_
    unfold w_Model_cutLine_j395
    refine c_addWordL (t := (0, [], 0, to)) hG hL hl (Nat.le_of_ble_eq_true rfl) (tokT_o (by simp) (by simp) (by simp)) (fun M' h => ⟨Or.inr rfl, ?_⟩)
    have := hQ M' h
    rw [decide_eq_true (by omega)] at this
    exact this
theorem c_cutLine_L {G : List Sl} {r n frm to : Nat} {p : Nat → Int32} {Q : Int32 → Mem → Prop} {M0 : Mem} (hG : Ga G) (hto : to ≤ n) (hn : n ≤ 6000) (hp10 : p to = 10) (hno : ∀ k, frm ≤ k → k < to → p k ≠ 10) :
    ∀ d k ts A M, to - k < d → frm ≤ k → k ≤ to → ts.length ≤ k - frm → A.length + (to - k) < 100000 → TL G A r n p ts M0 M →
      (∀ M', TL G (foldT A (tks p n k)) r n p (ts ++ full to (tks p n k)) M0 M' → Q (b2 (decide (1 < (ts ++ full to (tks p n k)).length))) M') →
      w_Model_cutLine_L16 0 Q d r (Int32.ofNat to) (Int32.ofNat k) 1 M := by
  intro d
  induction d with
  | zero => intro k ts A M h; omega
  | succ d ih =>
    intro k ts A M hd hfk hkt hts hA hL hQ
    obtain ⟨x1, x2, x3, x4⟩ := id hL.2.2.1
    unfold w_Model_cutLine_L16
    refine itn (by decide) ?_
    have hteq := tks_eq (a := k) x4 (by omega)
    -- the line ends here
    have dend : (p k = 35 ∨ p k = 10) → w_Model_cutLine_j383 0 Q (Int32.ofNat to) M := fun e => by
      have h32 : p k ≠ 32 := fun q => by rw [q] at e; exact absurd e (by decide)
      have el : lex p n k = ((0, [], 0, scn (fun b => b != 10) p n k), k) := by rw [lex_word h32]; exact if_pos e
      have es : scn (fun b => b != 10) p n k = to := scn_uniq x4 (by decide) hkt (fun i h1 h2 => by simp [hno i (by omega) h2]) (by simp [hp10])
      rw [es] at el
      rw [el] at hteq
      rw [if_pos (Nat.zero_le 1)] at hteq
      have hQ' := hQ
      rw [hteq, show foldT A [(0, [], 0, to)] = A from rfl, show full to [(0, [], 0, to)] = [(0, [], 0, to)] from rfl] at hQ'
      refine c_cutEnd hG hL (by omega) (fun M' h => ?_)
      have := hQ' M' h
      rw [List.length_append, List.length_singleton, show decide (1 < ts.length + 1) = decide (0 < ts.length) from decide_eq_decide.mpr ⟨by omega, by omega⟩] at this
      exact this
    by_cases ekt : k = to
    · exact itp (le_oN (by omega) (by omega)) (dend (Or.inr (by rw [ekt]; exact hp10)))
    have hklt : k < to := by omega
    refine itn (nle_oN (by omega) (by omega)) ?_
    have hvp : vp_in (Int32.ofNat k) (mL M 402 r) := (vp_oN (by omega)).mpr (by omega)
    rw [oN_tnc (by omega), x3 k (by omega)]
    refine ⟨hvp, ?_⟩
    by_cases c35 : p k = 35
    · exact itp c35 (dend (Or.inl c35))
    refine itn c35 ⟨hvp, ct_isLetter ?_⟩
    have c10 : ¬ p k = 10 := hno k hfk hklt
    have no1 : ¬ (p k = 35 ∨ p k = 10) := by rintro (q | q); exact c35 q; exact c10 q
    -- a word that is none
    have badL : lex p n k = ((1, [], 0, k), k) → ∀ M', TL G A r n p (ts ++ [(1, [], 0, k)]) M0 M' → ∀ j, w_Model_cutLine_L16 0 Q d r (Int32.ofNat to) j 0 M' := fun el M' h j => by
      rw [el, if_pos (Nat.le_refl 1)] at hteq
      have hQ' := hQ
      rw [hteq, show foldT A [(1, [], 0, k)] = A from rfl, show full to [(1, [], 0, k)] = [(1, [], 0, k), (0, [], 0, to)] from rfl] at hQ'
      obtain ⟨d', rfl⟩ : ∃ d', d = d' + 1 := ⟨d - 1, by omega⟩
      unfold w_Model_cutLine_L16
      refine itp rfl (c_cutEnd hG h (by rw [List.length_append, List.length_singleton]; omega) (fun M'' h2 => ?_))
      rw [List.append_assoc] at h2
      have := hQ' M'' h2
      rw [decide_eq_true (by simp)] at this
      rw [decide_eq_true (by simp)]
      exact this
    have bad : lex p n k = ((1, [], 0, k), k) → ∀ j, w_Model_addWord 0 1 0 (Int32.ofNat k) (fun M' => w_Model_cutLine_L16 0 Q d r (Int32.ofNat to) j 0 M') M := fun el j =>
      c_addWordL (t := (1, [], 0, k)) hG hL (by omega) (Nat.le_of_ble_eq_true rfl) (tokT_o (by simp) (by simp) (by simp)) (fun M' h => badL el M' h j)
    -- one that is one: the next place
    have good : ∀ t nx, lex p n k = (t, nx) → 1 < t.1 → nx ≤ to → ∀ M', TL G (insT A t) r n p (ts ++ [t]) M0 M' → w_Model_cutLine_L16 0 Q d r (Int32.ofNat to) (Int32.ofNat nx) 1 M' := fun t nx el ht hnx M' hL' => by
      have hok := lex_ok (a := k) x4 (by omega)
      rw [el] at hok
      obtain ⟨h1, h2⟩ := hok.2 ht
      have h1' : k < nx := h1
      have h2' : nx ≤ n := h2
      rw [el, if_neg (show ¬ t.1 ≤ 1 by omega)] at hteq
      refine ih nx (ts ++ [t]) (insT A t) M' (by omega) (by omega) hnx (by rw [List.length_append, List.length_singleton]; omega) ?_ hL' (fun M'' h3 => ?_)
      · have : (insT A t).length ≤ A.length + 1 := by
          unfold insT; split
          · exact ins_len _ _
          · omega
        omega
      · have hQ' := hQ
        rw [hteq, full_cons (tks_ne x4 (by omega))] at hQ'
        rw [List.append_assoc] at h3 ⊢
        exact hQ' M'' h3
    by_cases cL : isLt (p k) = true
    · have h32 : p k ≠ 32 := fun q => by rw [q] at cL; exact absurd cL (by decide)
      rw [cL]
      refine itn (by decide) ⟨to + 1 - k, ?_⟩
      obtain ⟨s1, s2, s3, s4⟩ := scn_spec x4 isW10 k
      have hst : scn isW p n k ≤ to := Nat.le_of_not_lt (fun q => by
        have := s3 to (by omega) q; rw [hp10] at this; exact absurd this (by decide))
      have hgt : k < scn isW p n k := Nat.lt_of_le_of_ne s1 (fun q => by
        rw [← q] at s4; unfold isW at s4; rw [cL] at s4; cases s4)
      have el : lex p n k = if scn isW p n k - k ≤ 12 then ((2, bytes p k (scn isW p n k), 0, k), scn isW p n k) else ((1, [], 0, k), k) := by
        rw [lex_word h32]; unfold lex1; rw [if_neg no1, if_pos cL]
      generalize scn isW p n k = st at s1 s2 s3 s4 hst hgt el
      have j88 : w_Model_cutLine_j88 0 Q (w_Model_cutLine_L16 0 Q d) r (Int32.ofNat to) (Int32.ofNat k) (Int32.ofNat st) M := by
        unfold w_Model_cutLine_j88
        rw [oN_sub s1]
        by_cases c12 : st - k ≤ 12
        · rw [if_pos c12] at el
          refine itn (nlt_oN (a := 12) c12 (by omega)) ?_
          unfold w_Model_cutLine_j103
          refine itn (by decide) ?_
          unfold w_Model_cutLine_j116
          refine itn (by decide) ?_
          rw [oN_sub s1]
          refine c_nameInL hG hL (by omega) s1 (by omega) (okn_bytes c12 s3) (fun M' h => ?_)
          unfold w_Model_cutLine_j137
          refine c_addWordL (t := (2, bytes p k st, 0, k)) hG h (by omega) (Nat.le_of_ble_eq_true rfl) ⟨rfl, rfl, (fun _ => ⟨?_, ins_mem _ _⟩), (fun q => absurd q (by simp))⟩ (fun M'' h2 => ?_)
          · show _ = Int32.ofNat ((ins A (bytes p k st)).idxOf (bytes p k st))
            rw [ins_idx]
          · unfold w_Model_cutLine_j376
            exact good _ _ el (by show 1 < 2; omega) hst M'' h2
        · rw [if_neg c12] at el
          refine itp (lt_oN (a := 12) (by omega) (by omega)) ?_
          unfold w_Model_cutLine_j103
          refine itp rfl ?_
          unfold w_Model_cutLine_j116
          refine itp rfl ?_
          unfold w_Model_cutLine_j137 w_Model_cutLine_j376
          exact bad el _
      have loop : ∀ e j, to - j < e → k + 1 ≤ j → j ≤ st → w_Model_cutLine_L56 0 Q (w_Model_cutLine_L16 0 Q d) e r (Int32.ofNat to) (Int32.ofNat k) (Int32.ofNat j) M := by
        intro e
        induction e with
        | zero => intro j h; omega
        | succ e ihe =>
          intro j he hj1 hj2
          unfold w_Model_cutLine_L56
          by_cases ej : j = to
          · have : j = st := by omega
            subst this
            exact itp (le_oN (by omega) (by omega)) j88
          · refine itn (nle_oN (by omega) (by omega)) ?_
            rw [oN_tnc (by omega), x3 j (by omega)]
            have hv : vp_in (Int32.ofNat j) (mL M 402 r) := (vp_oN (by omega)).mpr (by omega)
            refine ⟨hv, ct_isLetter ?_⟩
            have go : j ≠ st → w_Model_cutLine_j82 0 Q (w_Model_cutLine_L16 0 Q d) (w_Model_cutLine_L56 0 Q (w_Model_cutLine_L16 0 Q d) e) r (Int32.ofNat to) (Int32.ofNat k) (Int32.ofNat j) M := fun hne => by
              unfold w_Model_cutLine_j82
              rw [lit32 1, oN_add]
              exact ihe (j + 1) (by omega) (by omega) (by omega)
            by_cases e1 : isLt (p j) = true
            · rw [e1]
              exact itn (by decide) (go (fun q => by rw [q] at e1; unfold isW at s4; rw [e1] at s4; cases s4))
            · have e1 : isLt (p j) = false := by simpa using e1
              rw [e1]
              refine itp (by decide) ⟨hv, ?_⟩
              rw [x3 j (by omega)]
              refine ct_isDigit ?_
              by_cases e2 : isD (p j) = true
              · rw [e2]
                exact itn (by decide) (go (fun q => by rw [q] at e2; unfold isW at s4; rw [e2] at s4; simp at s4))
              · have e2 : isD (p j) = false := by simpa using e2
                rw [e2]
                have : j = st := by
                  rcases Nat.lt_or_ge j st with q | q
                  · have := s3 j (by omega) q; unfold isW at this; rw [e1, e2] at this; cases this
                  · omega
                subst this
                exact itp (by decide) j88
      rw [lit32 1, oN_add]
      exact loop _ (k + 1) (by omega) (by omega) (by omega)
    have cL : isLt (p k) = false := by simpa using cL
    rw [cL]
    refine itp (by decide) (ct_isDigit ?_)
    have num : (isD (p k) = true ∨ (p k = 45 ∧ isD (p (k + 1)) = true)) → w_Model_cutLine_j176 0 Q (w_Model_cutLine_L16 0 Q d) r (Int32.ofNat to) (Int32.ofNat k) M := fun hd' => by
      have h32 : p k ≠ 32 := fun q => by
        rcases hd' with h | h
        · rw [q] at h; exact absurd h (by decide)
        · rw [q] at h; exact absurd h.1 (by decide)
      have no2 : (isD (p k) || p k == 45) = true := by
        rcases hd' with h | h
        · rw [h]; rfl
        · rw [h.1]; rfl
      have el : lex p n k = lexN p n k (p k == 45) := by
        rw [lex_word h32]; unfold lex1; rw [if_neg no1, cL, if_neg (by decide), if_pos no2]
      unfold w_Model_cutLine_j176
      refine c_numberT hG hL (by omega) hklt hto hp10 hd' (fun M' h => ?_)
      have hW := h.2.2.2.1
      have hlen : (ts ++ [(lexN p n k (p k == 45)).1]).length = ts.length + 1 := by rw [List.length_append, List.length_singleton]
      rw [hW.1, hlen, show Int32.ofNat (ts.length + 1) - 1 = Int32.ofNat ts.length by rw [lit32 1, oN_sub (by omega), Nat.add_sub_cancel], hW.2.1.1, oN_tnc (by omega)]
      refine ⟨(vp_oN (by omega)).mpr (by omega), ?_⟩
      have hk := (hW.2.2 ts.length (by omega)).1
      have hg : gt (ts ++ [(lexN p n k (p k == 45)).1]) ts.length = (lexN p n k (p k == 45)).1 := by simp [gt, List.getD_eq_getElem?_getD]
      rw [hg] at hk
      rw [hk]
      rcases lexN_ok (less := p k == 45) x4 (show k < n by omega) with e | ⟨v, e, e1, e2⟩
      · rw [e] at h ⊢
        refine itp rfl ?_
        unfold w_Model_cutLine_j206 w_Model_cutLine_j376
        exact badL (el.trans e) M' h _
      · have hst : scn isD p n (if (p k == 45) = true then k + 1 else k) ≤ to := by
          obtain ⟨s1, s2, s3, s4⟩ := scn_spec x4 isD10 (if (p k == 45) = true then k + 1 else k)
          refine Nat.le_of_not_lt (fun q => ?_)
          have := s3 to (by split <;> omega) q
          rw [hp10] at this; exact absurd this (by decide)
        rw [e] at h ⊢
        refine itn (by show ¬ Int32.ofNat 4 = 1; decide) ?_
        unfold w_Model_cutLine_j206 w_Model_cutLine_j376
        exact good _ _ (el.trans e) (by show 1 < 4; omega) hst M' h
    by_cases cD : isD (p k) = true
    · rw [cD]
      exact itn (by decide) (num (Or.inl cD))
    have cD : isD (p k) = false := by simpa using cD
    rw [cD]
    refine itp (by decide) ?_
    have j358 : isSg (p k) = false → (p k = 60 → pref p k nMake = false ∧ pref p k nStart = false) → (p k = 45 → isD (p (k + 1)) = false) → w_Model_cutLine_j358 0 Q (w_Model_cutLine_L16 0 Q d) r (Int32.ofNat to) (Int32.ofNat k) 1 (p k) (Int32.ofNat (k + 1)) M := fun hs h60 h45 => by
      unfold w_Model_cutLine_j358
      by_cases c32 : p k = 32
      · refine itp c32 ?_
        unfold w_Model_cutLine_j376
        have e1 := lex_blank x4 c32
        have e2 := tks_eq (a := k + 1) x4 (by omega)
        have e3 : tks p n k = tks p n (k + 1) := by rw [hteq, e2, e1]
        rw [e3] at hQ
        exact ih (k + 1) ts A M (by omega) (by omega) (by omega) (by omega) (by omega) hL hQ
      · refine itn c32 ?_
        have el : lex p n k = ((1, [], 0, k), k) := by
          rw [lex_word c32]
          unfold lex1
          rw [if_neg no1, cL, if_neg (by decide), cD]
          by_cases c45 : p k = 45
          · rw [if_pos (by simp [c45])]
            unfold lexN
            have : scn isD p n (k + 1) = k + 1 := scn_f (h45 c45)
            simp only [c45, beq_self_eq_true, if_true, this, Nat.sub_self]
            rw [if_neg (by omega)]
          · rw [if_neg (by simp [c45])]
            by_cases c60 : p k = 60
            · rw [if_pos c60, if_neg (by rw [(h60 c60).1]; decide), if_neg (by rw [(h60 c60).2]; decide)]
            · rw [if_neg c60, if_neg (by rw [hs]; decide)]
        unfold w_Model_cutLine_j376
        exact bad el _
    have j211 : (p k = 45 → isD (p (k + 1)) = false) → w_Model_cutLine_j211 0 Q (w_Model_cutLine_L16 0 Q d) r (Int32.ofNat to) (Int32.ofNat k) 1 (p k) (Int32.ofNat (k + 1)) M := fun h45 => by
      unfold w_Model_cutLine_j211
      have sg : isSg (p k) = true → w_Model_cutLine_j260 0 Q (w_Model_cutLine_L16 0 Q d) r (Int32.ofNat to) (Int32.ofNat k) 1 (p k) (Int32.ofNat (k + 1)) M := fun h => by
        have hc := isSg_cases h
        have h32 : p k ≠ 32 := fun q => by rw [q] at h; exact absurd h (by decide)
        have h60 : p k ≠ 60 := fun q => by rw [q] at h; exact absurd h (by decide)
        have no2 : ¬ (isD (p k) || p k == 45) = true := by
          rw [cD]; intro q
          have : p k = 45 := by simpa using q
          rw [this] at h; exact absurd h (by decide)
        have el : lex p n k = (((p k).toNatClampNeg, [], 0, k), k + 1) := by
          rw [lex_word h32]; unfold lex1; rw [if_neg no1, cL, if_neg (by decide), if_neg no2, if_neg h60, if_pos h]
        have hb : 5 ≤ (p k).toNatClampNeg ∧ (p k).toNatClampNeg < 100 ∧ Int32.ofNat (p k).toNatClampNeg = p k := by
          rcases hc with e | e | e | e | e | e | e <;> (rw [e]; decide)
        unfold w_Model_cutLine_j260
        have := c_addWordL (t := ((p k).toNatClampNeg, [], 0, k)) (v := 0) (Q := fun M' => w_Model_cutLine_j376 0 Q (w_Model_cutLine_L16 0 Q d) r (Int32.ofNat to) 1 (Int32.ofNat (k + 1)) M') hG hL (by omega) (by show (p k).toNatClampNeg < 128; omega) (tokT_o (by show (p k).toNatClampNeg ≠ 2; omega) (by show (p k).toNatClampNeg ≠ 3; omega) (by show (p k).toNatClampNeg ≠ 4; omega)) (fun M' h' => by
          unfold w_Model_cutLine_j376
          refine good _ _ el (by show 1 < (p k).toNatClampNeg; omega) (by omega) M' ?_
          unfold insT
          rw [if_neg (by show ¬ (p k).toNatClampNeg = 2; omega)]
          exact h')
        rw [show Int32.ofNat ((p k).toNatClampNeg, ([] : Nm), (0 : Int32), k).1 = p k from hb.2.2] at this
        exact this
      by_cases cs : isSg (p k) = true
      · have s := sg cs
        have cc := isSg_cases cs
        by_cases d1 : p k = 58
        · exact itp d1 s
        refine itn d1 ?_
        by_cases d2 : p k = 44
        · exact itp d2 s
        refine itn d2 ?_
        by_cases d3 : p k = 59
        · exact itp d3 s
        refine itn d3 ?_
        by_cases d4 : p k = 40
        · exact itp d4 s
        refine itn d4 ?_
        by_cases d5 : p k = 41
        · exact itp d5 s
        refine itn d5 ?_
        by_cases d6 : p k = 46
        · exact itp d6 s
        refine itn d6 ?_
        by_cases d7 : p k = 61
        · exact itp d7 s
        · exact absurd cc (by simp [d1, d2, d3, d4, d5, d6, d7])
      · have cs : isSg (p k) = false := by simpa using cs
        have cs' := cs
        unfold isSg at cs'
        simp only [Bool.or_eq_false_iff, beq_eq_false_iff_ne] at cs'
        obtain ⟨⟨⟨⟨⟨⟨d1, d2⟩, d3⟩, d4⟩, d5⟩, d6⟩, d7⟩ := cs'
        refine itn d5 (itn d1 (itn d2 (itn d3 (itn d4 (itn d6 (itn d7 ?_))))))
        have nb : ∀ c : p k = 60, lex p n k = (if pref p k nMake then ((3, nMake, 0, k), k + 6) else if pref p k nStart then ((3, nStart, 0, k), k + 7) else ((1, [], 0, k), k)) := fun c => by
          rw [lex_word (by rw [c]; decide)]; unfold lex1; rw [if_neg no1, cL, if_neg (by decide), if_neg (by rw [c]; decide), if_pos c]
        by_cases c60 : p k = 60
        · refine itp c60 ?_
          rw [hL.2.2.2.2.1.1.1]
          refine c_isTag hG hL hL.2.2.2.2.1.1.2 nMake10 (by decide) hkt hto hp10 ?_
          by_cases h1 : pref p k nMake = true
          · rw [h1]
            refine itn (by decide) ?_
            rw [hL.2.2.2.2.1.1.1]
            refine c_addWordL (t := (3, nMake, 0, k)) hG hL (by omega) (Nat.le_of_ble_eq_true rfl) ⟨rfl, rfl, (fun _ => ⟨rfl, hL.2.2.2.2.1.1.2⟩), (fun q => absurd q (by simp))⟩ (fun M' h' => ?_)
            unfold w_Model_cutLine_j376
            rw [lit32 6, oN_add]
            have hx : k + 6 ≤ to := Nat.le_of_not_lt (fun q => by
              have := pref_iff.mp h1 (to - k) (by show to - k < 6; omega)
              rw [show k + (to - k) = to by omega, hp10] at this
              exact nMake10 _ (by show to - k < 6; omega) this.symm)
            exact good _ _ ((nb c60).trans (if_pos h1)) (by show 1 < 3; omega) hx M' h'
          · have h1 : pref p k nMake = false := by simpa using h1
            rw [h1]
            refine itp (by decide) ?_
            unfold w_Model_cutLine_j315
            refine itp c60 ?_
            rw [hL.2.2.2.2.1.2.1]
            refine c_isTag hG hL hL.2.2.2.2.1.2.2 nStart10 (by decide) hkt hto hp10 ?_
            by_cases h2 : pref p k nStart = true
            · rw [h2]
              refine itn (by decide) ?_
              rw [hL.2.2.2.2.1.2.1]
              refine c_addWordL (t := (3, nStart, 0, k)) hG hL (by omega) (Nat.le_of_ble_eq_true rfl) ⟨rfl, rfl, (fun _ => ⟨rfl, hL.2.2.2.2.1.2.2⟩), (fun q => absurd q (by simp))⟩ (fun M' h' => ?_)
              unfold w_Model_cutLine_j376
              rw [lit32 7, oN_add]
              have hx : k + 7 ≤ to := Nat.le_of_not_lt (fun q => by
                have := pref_iff.mp h2 (to - k) (by show to - k < 7; omega)
                rw [show k + (to - k) = to by omega, hp10] at this
                exact nStart10 _ (by show to - k < 7; omega) this.symm)
              exact good _ _ ((nb c60).trans ((if_neg (by rw [h1]; decide)).trans (if_pos h2))) (by show 1 < 3; omega) hx M' h'
            · have h2 : pref p k nStart = false := by simpa using h2
              rw [h2]
              exact itp (by decide) (j358 cs (fun _ => ⟨h1, h2⟩) h45)
        · refine itn c60 ?_
          unfold w_Model_cutLine_j315
          exact itn c60 (j358 cs (fun q => absurd q c60) h45)
    rw [lit32 1, oN_add]
    by_cases c45 : p k = 45
    · refine itp c45 ?_
      by_cases ck : k + 1 = to
      · refine itp (le_oN (by omega) (by omega)) (j211 (fun _ => by rw [ck, hp10]; decide))
      · refine itn (nle_oN (by omega) (by omega)) ?_
        rw [oN_tnc (by omega), x3 (k + 1) (by omega)]
        refine ⟨(vp_oN (by omega)).mpr (by omega), ct_isDigit ?_⟩
        by_cases c2 : isD (p (k + 1)) = true
        · rw [c2]; exact itn (by decide) (num (Or.inr ⟨c45, c2⟩))
        · have c2 : isD (p (k + 1)) = false := by simpa using c2
          rw [c2]; exact itp (by decide) (j211 (fun _ => c2))
    · exact itn c45 (j211 (fun q => absurd q c45))
theorem c_cutLine {G : List Sl} {A : List Nm} {r n frm to : Nat} {p : Nat → Int32} {Q : Int32 → Mem → Prop} {M : Mem} (hG : Ga G) (hTG : TG G M) (hN : TN hT A M) (hX : TXt r n p M) (hK : TK A M) (hw : mL M 411 0 = 6002 ∧ mL M 107 0 = 6002 ∧ mL M 108 0 = 6002) (hA : A.length < 90000) (hfr : frm ≤ to) (hto : to ≤ n) (hp10 : p to = 10) (hno : ∀ k, frm ≤ k → k < to → p k ≠ 10)
    (hQ : ∀ M', TL G (foldT A (tks p n frm)) r n p (full to (tks p n frm)) M M' → Q (b2 (decide (1 < (full to (tks p n frm)).length))) M') : w_Model_cutLine 0 r (Int32.ofNat frm) (Int32.ofNat to) Q M := by
  have hn := hX.2.1
  unfold w_Model_cutLine
  refine ⟨to + 1 - frm, c_cutLine_L (M0 := M) hG hto hn hp10 hno _ frm [] A _ (by omega) (Nat.le_refl _) hfr (by show 0 ≤ _; omega) (by omega) ⟨?_, ?_, ?_, ?_, ?_⟩ (fun M' h => hQ M' h)⟩
  · exact (GF.rf hTG).of (fun s hs => rfl) (fun s hs i k => by
      have := hG.ob s hs
      rw [mI_sI, if_neg (fun q => by omega), mI_sI, if_neg (fun q => by omega)]) (fun s hs i => rfl) rfl rfl
  · exact hN.of rfl rfl (fun _ => rfl) (fun _ => rfl) (fun _ => rfl) (fun _ => rfl) rfl rfl rfl
  · exact hX
  · exact ⟨rfl, hw, fun i hi => absurd hi (Nat.not_lt_zero i)⟩
  · exact ⟨hK, by rw [mI_sI, if_pos ⟨rfl, rfl, rfl⟩]⟩

/-! B: the first names, and words as the reader takes them -/
def A0 : List Nm := [[110, 111, 112], [110, 117, 109], [110, 117, 108, 108], [110, 108, 111, 97, 100], [114, 108, 111, 97, 100], [110, 115, 116, 111, 114, 101], [114, 115, 116, 111, 114, 101], [105, 110, 99], [97, 100, 100], [115, 117, 98], [109, 117, 108], [100, 105, 118], [114, 101, 109], [110, 101, 103], [97, 110, 100], [111, 114], [120, 111, 114], [115, 104, 108], [115, 104, 114], [112, 111, 112], [100, 117, 112], [100, 117, 112, 120], [115, 119, 97, 112], [106, 117, 109, 112], [105, 102, 48], [105, 102, 110, 48], [105, 102, 108], [105, 102, 103, 101], [105, 102, 103], [105, 102, 108, 101], [101, 113], [110, 101], [108, 116], [103, 101], [103, 116], [108, 101], [105, 115, 110, 117, 108, 108], [110, 111, 116, 110, 117, 108, 108], [115, 97, 109, 101], [111, 116, 104, 101, 114], [112, 105, 99, 107], [110, 101, 119], [110, 101, 119, 114, 111, 119], [103, 101, 116], [112, 117, 116], [115, 105, 122, 101], [102, 103, 101, 116], [102, 112, 117, 116], [115, 103, 101, 116], [115, 112, 117, 116], [99, 97, 108, 108], [115, 112, 101, 99, 105, 97, 108], [115, 116, 97, 116, 105, 99], [102, 97, 99, 101, 99, 97, 108, 108], [99, 97, 115, 116], [105, 115], [116, 104, 114, 111, 119], [100, 111, 110, 101], [110, 100, 111, 110, 101], [114, 100, 111, 110, 101], [101, 110, 116, 101, 114], [108, 101, 97, 118, 101], [99, 108, 97, 115, 115], [102, 105, 101, 108, 100], [109, 101, 116, 104, 111, 100], [114, 111, 111, 109], [102, 114, 97, 109, 101], [104, 97, 110, 100, 108, 101, 114], [101, 110, 100], [102, 105, 110, 97, 108], [97, 98, 115, 116, 114, 97, 99, 116], [102, 97, 99, 101], [112, 114, 105, 118, 97, 116, 101], [114, 111, 119], [110, 111, 110, 101], [117, 110, 115, 101, 116], [117, 110, 109, 97, 100, 101], [97, 110, 121], [114, 117, 110], [60, 109, 97, 107, 101, 62], [60, 115, 116, 97, 114, 116, 62], [84, 104, 105, 110, 103], [70, 97, 117, 108, 116], [78, 117, 108, 108, 70, 97, 117, 108, 116], [90, 101, 114, 111, 70, 97, 117, 108, 116], [80, 108, 97, 99, 101, 70, 97, 117, 108, 116], [83, 105, 122, 101, 70, 97, 117, 108, 116], [67, 97, 115, 116, 70, 97, 117, 108, 116], [76, 111, 99, 107, 70, 97, 117, 108, 116], [68, 101, 101, 112, 70, 97, 117, 108, 116], [82, 111, 111, 109, 70, 97, 117, 108, 116], [76, 105, 110, 107, 70, 97, 117, 108, 116], [67, 108, 97, 115, 115, 70, 97, 117, 108, 116], [70, 105, 101, 108, 100, 70, 97, 117, 108, 116], [77, 101, 116, 104, 111, 100, 70, 97, 117, 108, 116], [65, 99, 99, 101, 115, 115, 70, 97, 117, 108, 116], [75, 105, 110, 100, 70, 97, 117, 108, 116], [82, 105, 110, 103, 70, 97, 117, 108, 116], [67, 104, 101, 99, 107, 70, 97, 117, 108, 116], [66, 111, 100, 121, 70, 97, 117, 108, 116], [77, 97, 107, 101, 70, 97, 117, 108, 116], [83, 116, 97, 114, 116, 70, 97, 117, 108, 116]]
def nNum : Nm := [110, 117, 109]
def nNull : Nm := [110, 117, 108, 108]
def nStatic : Nm := [115, 116, 97, 116, 105, 99]
def nClass : Nm := [99, 108, 97, 115, 115]
def nField : Nm := [102, 105, 101, 108, 100]
def nMethod : Nm := [109, 101, 116, 104, 111, 100]
def nRoom : Nm := [114, 111, 111, 109]
def nFrame : Nm := [102, 114, 97, 109, 101]
def nHandler : Nm := [104, 97, 110, 100, 108, 101, 114]
def nEnd : Nm := [101, 110, 100]
def nFinal : Nm := [102, 105, 110, 97, 108]
def nAbstract : Nm := [97, 98, 115, 116, 114, 97, 99, 116]
def nFace : Nm := [102, 97, 99, 101]
def nPrivate : Nm := [112, 114, 105, 118, 97, 116, 101]
def nRow : Nm := [114, 111, 119]
def nNone : Nm := [110, 111, 110, 101]
def nUnset : Nm := [117, 110, 115, 101, 116]
def nUnmade : Nm := [117, 110, 109, 97, 100, 101]
def nAny : Nm := [97, 110, 121]
def nRun : Nm := [114, 117, 110]
def nThing : Nm := [84, 104, 105, 110, 103]
def nFault : Nm := [70, 97, 117, 108, 116]
def Base (A : List Nm) : Prop := A0 <+: A
theorem Base.at {A : List Nm} (h : Base A) {i : Nat} {nm : Nm} (e : A0[i]? = some nm) : A[i]? = some nm := by
  obtain ⟨B, rfl⟩ := h
  obtain ⟨hi, e'⟩ := List.getElem?_eq_some_iff.mp e
  rw [List.getElem?_append_left hi]; exact e
theorem Base.pre {A A' : List Nm} (h : Base A) (hp : A <+: A') : Base A' := List.IsPrefix.trans h hp
theorem Base.ms {A : List Nm} (h : Base A) : A[79]? = some nMake ∧ A[80]? = some nStart := ⟨h.at (by decide +kernel), h.at (by decide +kernel)⟩
abbrev hd (ts : List Tok) : Tok := ts.headD (1, [], 0, 0)
/-- the names of words are among B -/
def NB (B : List Nm) (ts : List Tok) : Prop := ∀ t ∈ ts, t.1 = 2 → t.2.1 ∈ B
/-- the table of names is as it should be -/
def NC (B A : List Nm) (M : Mem) : Prop := CNm A M ∧ Base A ∧ A ⊆ B ∧ B.length < 41200
theorem NC.len {B A : List Nm} {M : Mem} (h : NC B A M) : A.length < 41200 := by
  have : A.length ≤ B.length := by
    have hn := h.1.2.2
    have hs := h.2.2.1
    clear h
    induction A generalizing B with
    | nil => simp
    | cons a A ih =>
      have ha := hs List.mem_cons_self
      obtain ⟨hn1, hn2⟩ := List.nodup_cons.mp hn
      have : A ⊆ B.erase a := fun x hx => (List.mem_erase_of_ne (fun (e : x = a) => hn1 (e ▸ hx))).mpr (hs (List.mem_cons_of_mem _ hx))
      have := ih hn2 this
      rw [List.length_erase_of_mem ha] at this
      have := List.length_pos_of_mem ha
      simp; omega
  have := h.2.2.2
  omega
/-- a word is there again where it begins -/
theorem lex_place {p : Nat → Int32} {n a : Nat} (hp : tend p n) (ha : a ≤ n + 1) (h : 1 < (lex p n a).1.1) : lex p n (lex p n a).1.2.2.2 = lex p n a ∧ (lex p n a).1.2.2.2 ≤ (lex p n a).2 := by
  obtain ⟨s1, s2, s3, s4⟩ := scn_spec (q := fun b => b == 32) hp (by decide) a
  revert h
  unfold lex
  generalize scn (fun b => b == 32) p n a = k at s1 s2 s3 s4
  obtain ⟨kd, nm, v, pl, nx, e, h1, h2, h3⟩ := lex1_ok (k := k) hp (by omega)
  rw [e]
  intro h
  obtain ⟨q1, q2, q3⟩ := h2 h
  have rf : scn (fun b => b == 32) p n k = k := scn_f s4
  refine ⟨?_, by show pl ≤ nx; omega⟩
  show lex1 p n (scn (fun b => b == 32) p n pl) = _
  rw [q1, rf, e, q1]
/-- the reader is at a word of a line: ts are those from it on -/
def RS (B : List Nm) (r n : Nat) (p : Nat → Int32) (to : Nat) (A : List Nm) (ts : List Tok) (M : Mem) : Prop :=
  NC B A M ∧ TX r n p M ∧ n ≤ 2900 ∧ NB B ts ∧ (to ≤ n ∧ p to = 10) ∧ ∃ t a, TokC A t M ∧ okT n t ∧ mI M 2 0 2 = Int32.ofNat a ∧ a ≤ to ∧ (∀ i, a ≤ i → i < to → p i ≠ 10) ∧ ((t.1 ≤ 1 → lex p n a = (t, a)) ∧ (1 < t.1 → lex p n t.2.2.2 = (t, a) ∧ t.2.2.2 ≤ a)) ∧ ts = full to (if t.1 ≤ 1 then [t] else t :: tks p n a)
theorem RS.hd {B : List Nm} {r n : Nat} {p : Nat → Int32} {to : Nat} {A : List Nm} {ts : List Tok} {M : Mem} (h : RS B r n p to A ts M) : TokC A (hd ts) M ∧ okT n (hd ts) ∧ ts ≠ [] := by
  obtain ⟨-, -, -, -, -, t, a, h1, h2, h3, h4, h5, h6, h7⟩ := h
  have : ∃ rest, ts = t :: rest := by
    rw [h7]
    unfold full
    split
    · split
      · exact ⟨_, rfl⟩
      · exact ⟨_, rfl⟩
    · split
      · exact ⟨_, rfl⟩
      · exact ⟨_, rfl⟩
  obtain ⟨rest, e⟩ := this
  rw [e]; exact ⟨h1, h2, by simp⟩
theorem scn_to {p : Nat → Int32} {n to a : Nat} (hp : tend p n) (h1 : a ≤ to) (h2 : ∀ i, a ≤ i → i < to → p i ≠ 10) (h3 : p to = 10) : scn (fun b => b != 10) p n a = to :=
  scn_uniq hp (by decide) h1 (fun i a b => by simp [h2 i a b]) (by simp [h3])
/-- a word of a line ends in the line -/
theorem lex_in {p : Nat → Int32} {n to a : Nat} (hp : tend p n) (h1 : a ≤ to) (h2 : ∀ i, a ≤ i → i < to → p i ≠ 10) (h3 : p to = 10) (hto : to ≤ n) : (lex p n a).2 ≤ to ∧ a ≤ (lex p n a).2 ∧ ((lex p n a).1.1 ≤ 1 → lex p n (lex p n a).2 = lex p n a) ∧ ((lex p n a).1.1 = 0 → (lex p n a).1.2.2.2 = to) := by
  obtain ⟨s1, s2, s3, s4⟩ := scn_spec (q := fun b => b == 32) hp (by decide) a
  have hsk : scn (fun b => b == 32) p n a ≤ to := Nat.le_of_not_lt (fun q => by have := s3 to h1 q; rw [h3] at this; exact absurd this (by decide))
  have s4' : p (scn (fun b => b == 32) p n a) ≠ 32 := by simpa using s4
  unfold lex
  generalize scn (fun b => b == 32) p n a = k at s1 s2 s3 s4 s4' hsk
  have hk2 : ∀ i, k ≤ i → i < to → p i ≠ 10 := fun i q1 q2 => h2 i (by omega) q2
  have lb : ∀ q : Int32 → Bool, q 10 = false → ∀ f, f ≤ to → scn q p n f ≤ to := fun q hq f hf => by
    obtain ⟨x1, x2, x3, x4⟩ := scn_spec (q := q) hp hq f
    exact Nat.le_of_not_lt (fun c => by have := x3 to hf c; rw [h3, hq] at this; cases this)
  have rf : scn (fun b => b == 32) p n k = k := scn_f (by simp [s4'])
  obtain ⟨kd, nm, v, pl, nx, e, g1, g2, g3⟩ := lex1_ok (k := k) hp (by omega)
  have hnx : nx ≤ to ∧ (kd ≤ 1 → nx = k) ∧ (kd = 0 → pl = to) := by
    by_cases c1 : p k = 35 ∨ p k = 10
    · have : lex1 p n k = ((0, [], 0, scn (fun b => b != 10) p n k), k) := if_pos c1
      rw [this] at e
      simp only [Prod.mk.injEq] at e
      obtain ⟨⟨e1, e2, e3, e4⟩, e5⟩ := e
      subst e5 e4 e1
      exact ⟨hsk, fun _ => rfl, fun _ => scn_to hp hsk hk2 h3⟩
    have hkt : k < to := Nat.lt_of_le_of_ne hsk (fun q => c1 (Or.inr (by rw [q]; exact h3)))
    by_cases c2 : isLt (p k) = true
    · by_cases c3 : scn isW p n k - k ≤ 12
      · have : lex1 p n k = ((2, bytes p k (scn isW p n k), 0, k), scn isW p n k) := by unfold lex1; rw [if_neg c1, if_pos c2, if_pos c3]
        rw [this] at e
        simp only [Prod.mk.injEq] at e
        obtain ⟨⟨e1, -, -, -⟩, e5⟩ := e
        subst e5 e1
        exact ⟨lb isW isW10 k hsk, fun q => absurd q (by decide), fun q => by cases q⟩
      · have : lex1 p n k = ((1, [], 0, k), k) := by unfold lex1; rw [if_neg c1, if_pos c2, if_neg c3]
        rw [this] at e
        simp only [Prod.mk.injEq] at e
        obtain ⟨⟨e1, -, -, -⟩, e5⟩ := e
        subst e5 e1
        exact ⟨hsk, fun _ => rfl, fun q => by cases q⟩
    by_cases c3 : (isD (p k) || p k == 45) = true
    · have h : lex1 p n k = lexN p n k (p k == 45) := by unfold lex1; rw [if_neg c1, if_neg c2, if_pos c3]
      rcases lexN_ok (less := p k == 45) hp (show k < n by omega) with q | ⟨w, q, q1, q2⟩
      · rw [h, q] at e
        simp only [Prod.mk.injEq] at e
        obtain ⟨⟨e1, -, -, -⟩, e5⟩ := e
        subst e5 e1
        exact ⟨hsk, fun _ => rfl, fun q => by cases q⟩
      · rw [h, q] at e
        simp only [Prod.mk.injEq] at e
        obtain ⟨⟨e1, -, -, -⟩, e5⟩ := e
        subst e5 e1
        exact ⟨lb isD isD10 _ (by split <;> omega), fun q => absurd q (by decide), fun q => by cases q⟩
    by_cases c4 : p k = 60
    · have h : lex1 p n k = (if pref p k nMake then ((3, nMake, 0, k), k + 6) else if pref p k nStart then ((3, nStart, 0, k), k + 7) else ((1, [], 0, k), k)) := by
        unfold lex1; rw [if_neg c1, if_neg c2, if_neg c3, if_pos c4]
      have pl' : ∀ nm : Nm, (∀ i, i < nm.length → gb0 nm i ≠ 10) → pref p k nm = true → k + nm.length ≤ to := fun nm h10 hpr => Nat.le_of_not_lt (fun q => by
        have := pref_iff.mp hpr (to - k) (by omega)
        rw [show k + (to - k) = to by omega, h3] at this
        exact h10 _ (by omega) this.symm)
      by_cases i1 : pref p k nMake = true
      · rw [h, if_pos i1] at e
        simp only [Prod.mk.injEq] at e
        obtain ⟨⟨e1, -, -, -⟩, e5⟩ := e
        subst e5 e1
        exact ⟨pl' nMake nMake10 i1, fun q => absurd q (by decide), fun q => by cases q⟩
      · rw [h, if_neg i1] at e
        by_cases i2 : pref p k nStart = true
        · rw [if_pos i2] at e
          simp only [Prod.mk.injEq] at e
          obtain ⟨⟨e1, -, -, -⟩, e5⟩ := e
          subst e5 e1
          exact ⟨pl' nStart nStart10 i2, fun q => absurd q (by decide), fun q => by cases q⟩
        · rw [if_neg i2] at e
          simp only [Prod.mk.injEq] at e
          obtain ⟨⟨e1, -, -, -⟩, e5⟩ := e
          subst e5 e1
          exact ⟨hsk, fun _ => rfl, fun q => by cases q⟩
    by_cases c5 : isSg (p k) = true
    · have h : lex1 p n k = (((p k).toNatClampNeg, [], 0, k), k + 1) := by
        unfold lex1; rw [if_neg c1, if_neg c2, if_neg c3, if_neg c4, if_pos c5]
      have hc : 5 < (p k).toNatClampNeg := by
        rcases isSg_cases c5 with h | h | h | h | h | h | h <;> (rw [h]; decide)
      rw [h] at e
      simp only [Prod.mk.injEq] at e
      obtain ⟨⟨e1, -, -, -⟩, e5⟩ := e
      subst e5 e1
      exact ⟨by omega, fun q => by omega, fun q => by omega⟩
    · have : lex1 p n k = ((1, [], 0, k), k) := by unfold lex1; rw [if_neg c1, if_neg c2, if_neg c3, if_neg c4, if_neg c5]
      rw [this] at e
      simp only [Prod.mk.injEq] at e
      obtain ⟨⟨e1, -, -, -⟩, e5⟩ := e
      subst e5 e1
      exact ⟨hsk, fun _ => rfl, fun q => by cases q⟩
  rw [e]
  refine ⟨hnx.1, ?_, fun q => ?_, hnx.2.2⟩
  · by_cases q : kd ≤ 1
    · have := hnx.2.1 q; show a ≤ nx; omega
    · have := g2 (by omega); show a ≤ nx; omega
  · show lex1 p n (scn (fun b => b == 32) p n nx) = _
    rw [hnx.2.1 q, rf]; exact e.trans (by rw [hnx.2.1 q])

/-! B: how words are taken: a rule and a place when not -/
abbrev Rz (α : Type) : Type := (Nat × Nat) ⊕ (α × List Tok)
def er (ts : List Tok) : Nat × Nat := (1, (hd ts).2.2.2)
def isWd (nm : Nm) (ts : List Tok) : Bool := decide ((hd ts).1 = 2 ∧ (hd ts).2.1 = nm)
def pSign (b : Nat) (ts : List Tok) : Rz Unit := if (hd ts).1 = b then .inr ((), ts.tail) else .inl (er ts)
def pName (ts : List Tok) : Rz Nm := if (hd ts).1 = 2 then .inr ((hd ts).2.1, ts.tail) else .inl (er ts)
def noCls : List Nm := [nNum, nRow, nNone, nNull, nUnset, nUnmade, nAny]
def pCls (ts : List Tok) : Rz Nm := if (hd ts).1 = 2 ∧ (hd ts).2.1 ∉ noCls then .inr ((hd ts).2.1, ts.tail) else .inl (er ts)
def pNum (lo hi : Int32) (ts : List Tok) : Rz Int32 := if (hd ts).1 = 4 ∧ lo ≤ (hd ts).2.2.1 ∧ (hd ts).2.2.1 ≤ hi then .inr ((hd ts).2.2.1, ts.tail) else .inl (er ts)
/-- kinds: 0 num, 1 row, 2 a class, -1 null, -2 unset, -3 unmade, -4 none, -10 less an instruction what is new there -/
abbrev Kd : Type := Int × Nm
def pType (ts : List Tok) : Rz Kd := if isWd nNum ts then .inr ((0, []), ts.tail) else if isWd nRow ts then .inr ((1, []), ts.tail) else match pCls ts with
  | .inl e => .inl e
  | .inr (nm, r) => .inr ((2, nm), r)
def pRes (ts : List Tok) : Rz Kd := if isWd nNone ts then .inr ((-4, []), ts.tail) else pType ts
/-- the end of a line has to be there -/
def pEnd (ts : List Tok) : Option (Nat × Nat) := if (hd ts).1 = 0 then none else some (er ts)
-- numbers of names and kinds, in the works
def nc (A : List Nm) (nm : Nm) : Int32 := Int32.ofNat (A.idxOf nm)
def kC (A : List Nm) (κ : Kd) : Int32 := if κ.1 = 2 then Int32.ofNat (A.idxOf κ.2 + 2) else Int32.ofInt κ.1
def kok (A : List Nm) (κ : Kd) : Prop := κ.1 = 2 → κ.2 ∈ A
theorem nc_pre {A A' : List Nm} (h : A <+: A') {nm : Nm} (hx : nm ∈ A) : nc A' nm = nc A nm := by unfold nc; rw [idx_pre h hx]
theorem kC_pre {A A' : List Nm} (h : A <+: A') {κ : Kd} (hx : kok A κ) : kC A' κ = kC A κ := by
  unfold kC
  by_cases e : κ.1 = 2
  · rw [if_pos e, if_pos e, idx_pre h (hx e)]
  · rw [if_neg e, if_neg e]
theorem kok_pre {A A' : List Nm} (h : A <+: A') {κ : Kd} (hx : kok A κ) : kok A' κ := fun e => h.subset (hx e)
theorem nc_inj {A : List Nm} (hl : A.length < 2147483648) {a b : Nm} (ha : a ∈ A) (hb : b ∈ A) : nc A a = nc A b ↔ a = b := by
  have h1 := List.idxOf_lt_length_iff.mpr ha
  have h2 := List.idxOf_lt_length_iff.mpr hb
  constructor
  · intro h
    have := (oN_inj (by omega) (by omega)).mp h
    have e1 : A[A.idxOf a]? = some a := by rw [List.getElem?_eq_getElem h1, List.getElem_idxOf h1]
    have e2 : A[A.idxOf b]? = some b := by rw [List.getElem?_eq_getElem h2, List.getElem_idxOf h2]
    rw [this, e2] at e1
    exact (Option.some.inj e1).symm
  · exact fun h => h ▸ rfl
theorem nc_at {A : List Nm} {M : Mem} (h : CNm A M) {i : Nat} {nm : Nm} (e : A[i]? = some nm) : nc A nm = Int32.ofNat i := by unfold nc; rw [(h.get e).2.2.1]
-- the works' reader
theorem NC.more {B A : List Nm} {M M' : Mem} (h : NC B A M) {t : Tok} (hb : t.1 = 2 → t.2.1 ∈ B) (hC : CNm (insT A t) M') : NC B (insT A t) M' := by
  refine ⟨hC, h.2.1.pre (insT_pre A t), fun x hx => ?_, h.2.2.2⟩
  unfold insT at hx
  split at hx
  · rename_i e
    unfold ins at hx
    split at hx
    · exact h.2.2.1 hx
    · rcases List.mem_append.mp hx with q | q
      · exact h.2.2.1 q
      · simp at q; rw [q]; exact hb e
  · exact h.2.2.1 hx
theorem c_rnext {B : List Nm} {r n : Nat} {p : Nat → Int32} {to : Nat} {A : List Nm} {ts : List Tok} {Q : Mem → Prop} {M : Mem} (hR : RS B r n p to A ts M) (h1 : 1 < (hd ts).1)
    (hQ : ∀ A' M', A <+: A' → RS B r n p to A' ts.tail M' → Q M') : w_Words_next 0 Q M := by
  obtain ⟨hN, hT, hn, hB, hto, t, a, g1, g2, g3, g4, g5, g6, g7⟩ := hR
  have hp := hT.2.2.2.2
  have ht : 1 < t.1 := by
    have : (hd ts) = t := by
      rw [g7]; unfold full
      split <;> (split <;> rfl)
    rw [this] at h1; exact h1
  rw [if_neg (by omega)] at g7
  have hne := tks_ne (a := a) hp (by omega)
  rw [full_cons hne] at g7
  have htail : ts.tail = full to (tks p n a) := by rw [g7]; rfl
  have heq := tks_eq (a := a) hp (by omega)
  have hin := lex_in hp g4 g5 hto.2 hto.1
  have hlo := lex_ok (a := a) hp (by omega)
  have hmem : (lex p n a).1 ∈ ts.tail := by
    rw [htail, heq]; unfold full
    split <;> (split <;> simp)
  have hb : (lex p n a).1.1 = 2 → (lex p n a).1.2.1 ∈ B := hB _ (List.mem_of_mem_tail hmem)
  refine c_next hN.1 hN.len hN.2.1.ms hT g3 (by omega) (fun M' k1 k2 k3 k4 => ?_)
  refine hQ _ M' (insT_pre A _) ⟨hN.more hb k1, k2, hn, fun t' ht' => hB t' (List.mem_of_mem_tail ht'), hto, _, _, k4, hlo.1, k3, hin.1, fun i q1 q2 => g5 i (by omega) q2, ⟨fun q => ?_, fun q => lex_place hp (by omega) q⟩, ?_⟩
  · rw [hin.2.2.1 q]
  · rw [htail, heq]
theorem RS.again {B : List Nm} {r n : Nat} {p : Nat → Int32} {to : Nat} {A A1 : List Nm} {ts ts1 : List Tok} {Q : Mem → Prop} {M M1 : Mem} (h0 : RS B r n p to A ts M) (hk : 1 < (ts.headD (1, [], 0, 0)).1) (h : RS B r n p to A1 ts1 M1) (hQ : ∀ A' M', A1 <+: A' → RS B r n p to A' ts M' → Q M') : w_Words_next 0 Q (sI M1 2 0 2 (mI M 2 0 4)) := by
  obtain ⟨-, -, -, hB, hto, t, a, g1, g2, g3, g4, g5, g6, g7⟩ := h0
  obtain ⟨hN, hT, hn, -⟩ := h
  have hp := hT.2.2.2.2
  have ht : ts.headD (1, [], 0, 0) = t := by
    rw [g7]; unfold full
    split <;> (split <;> rfl)
  rw [ht] at hk
  obtain ⟨l1, l2⟩ := g6.2 hk
  have hm : t ∈ ts := by
    rw [g7]; unfold full
    split <;> (split <;> simp)
  have hN' : CNm A1 (sI M1 2 0 2 (mI M 2 0 4)) := hN.1.of rfl (fun _ => rfl) (fun _ => rfl) (fun _ => rfl) (fun _ => rfl) rfl rfl rfl rfl
  refine c_next (a := t.2.2.2) hN' hN.len hN.2.1.ms (hT.of rfl rfl rfl (fun _ => rfl)) ?_ (by omega) (fun M' k1 k2 k3 k4 => ?_)
  · rw [mI_sI, if_pos ⟨rfl, rfl, rfl⟩]; exact g1.1
  · rw [l1] at k1 k3 k4
    exact hQ _ M' (insT_pre A1 t) ⟨hN.more (hB t hm) k1, k2, hn, hB, hto, t, a, k4, g2, k3, g4, g5, g6, g7⟩
/-- refused, by a rule, at a place -/
def Thr (B A : List Nm) (e : Nat × Nat) (M : Mem) : Prop := NC B A M ∧ mI M 9 0 5 = Int32.ofNat e.1 ∧ mI M 9 0 6 = Int32.ofNat e.2
theorem NC.r9 {B A : List Nm} {M : Mem} (h : NC B A M) {a b : Int32} : NC B A (sI (sI M 9 0 5 a) 9 0 6 b) := ⟨h.1.of rfl (fun _ => rfl) (fun _ => rfl) (fun _ => rfl) (fun _ => rfl) rfl rfl rfl rfl, h.2⟩
theorem c_wrong {B : List Nm} {r n : Nat} {p : Nat → Int32} {to : Nat} {A : List Nm} {ts : List Tok} {X : Mem → Prop} {M : Mem} (hR : RS B r n p to A ts M)
    (hX : ∀ M', Thr B A (er ts) M' → X M') : w_Reader_wrong 0 (fun i M' => i = 0 ∧ X M') M := by
  unfold w_Reader_wrong w_Works_refuse
  have := hR.hd.1.1
  exact ⟨rfl, hX _ ⟨hR.1.r9, rfl, this⟩⟩
theorem TokC.name {A : List Nm} {t : Tok} {M : Mem} (h : TokC A t M) (e : t.1 = 2 ∨ t.1 = 3) : mR M 2 0 3 = some (0, 100) ∧ mI M 2 0 5 = nc A t.2.1 ∧ t.2.1 ∈ A := by
  have := h.2
  rw [if_neg (by omega), if_neg (by omega), if_pos e] at this
  exact this
theorem TokC.kind {A : List Nm} {t : Tok} {M : Mem} (h : TokC A t M) : mR M 2 0 3 = some (0, 100 + (if t.1 = 0 then 3 else if t.1 = 1 then 4 else if t.1 = 2 ∨ t.1 = 3 then 0 else if t.1 = 4 then 1 else 2)) := by
  have := h.2
  by_cases c0 : t.1 = 0
  · rw [if_pos c0] at this ⊢; exact this
  rw [if_neg c0] at this ⊢
  by_cases c1 : t.1 = 1
  · rw [if_pos c1] at this ⊢; exact this
  rw [if_neg c1] at this ⊢
  by_cases c2 : t.1 = 2 ∨ t.1 = 3
  · rw [if_pos c2] at this ⊢; exact this.1
  rw [if_neg c2] at this ⊢
  by_cases c4 : t.1 = 4
  · rw [if_pos c4] at this ⊢; exact this.1
  · rw [if_neg c4] at this ⊢; exact this.1
theorem kind_lt (t : Tok) : (if t.1 = 0 then 3 else if t.1 = 1 then 4 else if t.1 = 2 ∨ t.1 = 3 then 0 else if t.1 = 4 then 1 else 2) < 5 := by
  repeat' split
  all_goals decide
theorem TokC.isK {A : List Nm} {t : Tok} {M : Mem} (h : TokC A t M) : isK (mR M 2 0 3) := ⟨_, kind_lt t, h.kind⟩
/-- whether it is a word: by its number among the first names -/
theorem c_isWd {B : List Nm} {r n : Nat} {p : Nat → Int32} {to : Nat} {A : List Nm} {ts : List Tok} {Q : Int32 → Mem → Prop} {M : Mem} {v : Nat} {nm : Nm} (hR : RS B r n p to A ts M) (hv : A0[v]? = some nm) (hm : nm ≠ nMake ∧ nm ≠ nStart)
    (hQ : Q (b2 (isWd nm ts)) M) : w_Words_isWord 0 (Int32.ofNat v) Q M := by
  refine c_isWord hR.1.1 hR.hd.1 (hR.1.2.1.at hv) ?_
  have : decide (((hd ts).1 = 2 ∨ (hd ts).1 = 3) ∧ (hd ts).2.1 = nm) = isWd nm ts := by
    unfold isWd
    refine decide_eq_decide.mpr ⟨fun q => ?_, fun q => ⟨Or.inl q.1, q.2⟩⟩
    rcases q.1 with e | e
    · exact ⟨e, q.2⟩
    · rcases hR.hd.2.1.2.2.2 e with x | x
      · exact absurd (q.2.symm.trans x) hm.1
      · exact absurd (q.2.symm.trans x) hm.2
  rw [this]; exact hQ
theorem c_sign {B : List Nm} {r n : Nat} {p : Nat → Int32} {to : Nat} {A : List Nm} {ts : List Tok} {Q X : Mem → Prop} {M : Mem} {b : Nat} (hR : RS B r n p to A ts M) (hb : 5 ≤ b) (hb2 : b < 100)
    (hQ : ∀ A' ts' M', pSign b ts = .inr ((), ts') → A <+: A' → RS B r n p to A' ts' M' → Q M') (hX : ∀ A' e M', pSign b ts = .inl e → A <+: A' → Thr B A' e M' → X M') : w_Reader_sign 0 (Int32.ofNat b) Q X M := by
  unfold w_Reader_sign
  have ht := hR.hd.2.1.2.1
  refine c_isSign hR.hd.1 hb (by omega) (by omega) ?_
  unfold pSign at hQ hX
  by_cases c : (hd ts).1 = b
  · rw [decide_eq_true c]
    refine itn (by decide) (c_rnext hR (by omega) (fun A' M' h1 h2 => hQ A' _ M' (if_pos c) h1 h2))
  · rw [decide_eq_false c]
    exact itp (by decide) (c_wrong hR (fun M' h => hX A _ M' (if_neg c) (List.prefix_refl _) h))
theorem kd_name {ts : List Tok} : (if (hd ts).1 = 0 then 3 else if (hd ts).1 = 1 then 4 else if (hd ts).1 = 2 ∨ (hd ts).1 = 3 then 0 else if (hd ts).1 = 4 then 1 else 2) = 0 ↔ ((hd ts).1 = 2 ∨ (hd ts).1 = 3) := by
  repeat' split
  all_goals omega
theorem c_anyName {B : List Nm} {r n : Nat} {p : Nat → Int32} {to : Nat} {A : List Nm} {ts : List Tok} {Q : Int32 → Mem → Prop} {X : Mem → Prop} {M : Mem} (hR : RS B r n p to A ts M)
    (hQ : ∀ A' nm ts' M', pName ts = .inr (nm, ts') → A <+: A' → nm ∈ A → RS B r n p to A' ts' M' → Q (nc A nm) M') (hX : ∀ A' e M', pName ts = .inl e → A <+: A' → Thr B A' e M' → X M') : w_Reader_anyName 0 Q X M := by
  unfold w_Reader_anyName
  obtain ⟨h1, h2, h3⟩ := hR.hd
  have bad : (hd ts).1 ≠ 2 → w_Reader_anyName_j37 0 Q X M := fun c => by
    unfold w_Reader_anyName_j37
    exact c_wrong hR (fun M' h => hX A _ M' (if_neg c) (List.prefix_refl _) h)
  refine ⟨h1.isK, ?_⟩
  by_cases c : (hd ts).1 = 2 ∨ (hd ts).1 = 3
  · obtain ⟨k1, k2, k3⟩ := h1.name c
    refine itp k1 ?_
    rw [k2]
    have hms := hR.1.2.1.ms
    have hl := hR.1.len
    have e79 := nc_at hR.1.1 hms.1
    have e80 := nc_at hR.1.1 hms.2
    by_cases c2 : (hd ts).1 = 2
    · obtain ⟨-, -, m1, m2⟩ := h2.2.2.1 c2
      refine itn (fun q => m1 ((nc_inj (by omega) k3 (List.mem_of_getElem? hms.1)).mp (q.trans e79.symm))) (itn (fun q => m2 ((nc_inj (by omega) k3 (List.mem_of_getElem? hms.2)).mp (q.trans e80.symm))) ?_)
      exact c_rnext hR (by omega) (fun A' M' q1 q2 => hQ A' _ _ M' (if_pos c2) q1 k3 q2)
    · have c3 : (hd ts).1 = 3 := by omega
      rcases h2.2.2.2 c3 with e | e
      · rw [e, e79]; exact itp rfl (bad c2)
      · rw [e, e80]; exact itn (by decide) (itp rfl (bad c2))
  · refine itn (fun q => c ?_) (bad (fun q => c (Or.inl q)))
    have := h1.kind.symm.trans q
    exact kd_name.mp (by simpa using this)

