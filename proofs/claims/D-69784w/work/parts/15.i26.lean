/-! the works' writer: all labels of a method -/
theorem gtn_mem {l : List Nat} {j : Nat} (h : j < l.length) : gtn l j ∈ l := getD_mem h
section
variable {w nq np nh m q0 h0 : Nat} {x : Mth} {M M' : Mem} {Q : Mem → Prop}
theorem wf_t (hx : wfM x) {i t : Nat} (hi : i < (co x).length) (ht : t ∈ iT (gin (co x) i)) : t < (co x).length := (hx.2.2.1.2 _ (getD_mem hi)).2.2.1 t ht
theorem c_lab170 (hx : wfM x) {n : Nat} (hn : n = (co x).length) : ∀ f i M, i ≤ (hs x).length → (hs x).length - i < f → LbW w nq np nh m q0 h0 x M → nbM (tlN x n i) n M → (∀ M', Fr S96 M M' → (∀ k, k ≤ n → mI M' 96 0 k = if tls x k = true then Int32.ofNat (rnk (tls x) k) else -1) → Q M') → w_Writer_labels_L170 0 Q f (Int32.ofNat m) (Int32.ofNat n) (Int32.ofNat (4 * (h0 + i))) M
  | 0, i, M, hi, hf, h, hm, hQ => absurd hf (by omega)
  | f + 1, i, M, hi, hf, h, hm, hQ => by
    have hc80 := hx.2.2.1.1
    obtain ⟨⟨r5, l96⟩, ⟨⟨l62, l63, l64, l65, hm3⟩, -, -, b1, b2', b3⟩, ⟨-, -, e64, e65, -, e6⟩, -⟩ := id h
    unfold w_Writer_labels_L170
    refine ⟨w, r5, ?_⟩
    rw [oN_tnc (k := m) (by omega), l64]
    refine ⟨(vp_oN (by omega)).mpr hm3, w, r5, by rw [l65]; exact (vp_oN (by omega)).mpr hm3, ?_⟩
    rw [e64, e65, oN_add, show (4 : Int32) * Int32.ofNat (h0 + (hs x).length) = Int32.ofNat (4 * (h0 + (hs x).length)) from oN_mul 4 _]
    by_cases e : i = (hs x).length
    · refine itp (le_oN (by omega) (by omega)) ⟨n + 2, ?_⟩
      have hT : ∀ k, tlN x n i k ↔ tlP x k := fun k => by unfold tlN tlP; rw [hn, e]
      refine c_lab239 l96 n (by omega) (tls x) hQ (n + 2) 0 M (Nat.zero_le _) (by omega) (Fr.rf _ _) (fun j hj => absurd hj (by omega)) (fun j _ hj => ?_)
      by_cases c : tls x j = true
      · rw [if_pos c]; exact (hm j hj).1 ((hT j).2 (tls_iff.1 c))
      · rw [if_neg c]; exact (hm j hj).2 (fun z => c (tls_iff.2 ((hT j).1 z)))
    · refine itn (nle_oN (by omega) (by omega)) ⟨4, c_lab198 h hx (by omega) hn (fun M1 f1 t1 => ?_) hm⟩
      rw [show 4 * (h0 + i) + 4 = 4 * (h0 + (i + 1)) by omega]
      exact c_lab170 hx hn f (i + 1) M1 (by omega) (by omega) (h.fr f1) t1 (fun M2 f2 t2 => hQ M2 (f1.trans f2) t2)
theorem c_lab89 {k32 : Int32 → Int32 → Int32 → Mem → Prop} (hx : wfM x) {n i : Nat} (hn : n = (co x).length) (hi : i < (co x).length) {T : Nat → Prop} (ho : (gin (co x) i).1 = 40) : ∀ f j M, j ≤ (iT (gin (co x) i)).length → (iT (gin (co x) i)).length - j < f → LbW w nq np nh m q0 h0 x M → nbM (fun k => T k ∨ k ∈ (iT (gin (co x) i)).take j) n M → (∀ M', Fr S96 M M' → nbM (fun k => T k ∨ k ∈ iT (gin (co x) i)) n M' → k32 (Int32.ofNat m) (Int32.ofNat n) (Int32.ofNat (i + 1)) M') → w_Writer_labels_L89 0 Q k32 f (Int32.ofNat m) (Int32.ofNat n) (Int32.ofNat i) (Int32.ofNat (q0 + i)) (Int32.ofNat j) M
  | 0, j, M, hj, hf, h, hm, hQ => absurd hf (by omega)
  | f + 1, j, M, hj, hf, h, hm, hQ => by
    have hc80 := hx.2.2.1.1
    obtain ⟨⟨r5, l96⟩, ⟨-, ⟨l66, l67, l68, l69⟩, ⟨l74, -⟩, b1, b2', b3⟩, ⟨-, -, -, -, e5, -⟩, hI, -⟩ := id h
    obtain ⟨⟨e66, -⟩, -, hp, -⟩ := hI i hi
    obtain ⟨pf, e68, e69, p1, p2⟩ := hp ho
    unfold w_Writer_labels_L89
    refine ⟨w, r5, ?_⟩
    rw [oN_tnc (k := q0 + i) (by omega), e66, ho]
    refine ⟨(vp_oN (by omega)).mpr (by omega), itp rfl ⟨w, r5, (vp_oN (by omega)).mpr (by omega), ?_⟩⟩
    rw [e69]
    by_cases e : j = (iT (gin (co x) i)).length
    · refine itp (le_oN (by omega) (by omega)) ?_
      unfold w_Writer_labels_j152
      rw [lit32 1, oN_add]
      rw [e, List.take_length] at hm
      exact hQ M (Fr.rf _ _) hm
    refine itn (nle_oN (by omega) (by omega)) ⟨w, r5, w, r5, (vp_oN (by omega)).mpr (by omega), ?_⟩
    have hjl : j < (iT (gin (co x) i)).length := by omega
    have htn := wf_t hx hi (gtn_mem hjl)
    rw [e68, oN_add, oN_tnc (k := pf + j) (by omega), p2 j hjl, oN_tnc (k := gtn (iT (gin (co x) i)) j) (by omega), l96]
    refine ⟨(vp_oN (by omega)).mpr (by omega), (vp_oN (by omega)).mpr (by omega), _, rfl, ?_⟩
    rw [lit32 1, oN_add]
    have f1 : Fr S96 M (sI M 96 0 (gtn (iT (gin (co x) i)) j) 0) := Fr.wIa rfl rfl (Fr.rf _ _)
    refine c_lab89 hx hn hi ho f (j + 1) _ (by omega) (by omega) (h.fr f1) (hm.set (fun k => ?_)) (fun M2 f2 t2 => hQ M2 (f1.trans f2) t2)
    have et : (iT (gin (co x) i)).take (j + 1) = (iT (gin (co x) i)).take j ++ [gtn (iT (gin (co x) i)) j] := by
      rw [List.take_add_one, List.getElem?_eq_getElem hjl]
      show _ ++ [_] = _
      congr 2
      show _ = (iT (gin (co x) i)).getD j 0
      rw [List.getD_eq_getElem?_getD, List.getElem?_eq_getElem hjl]; rfl
    rw [et, List.mem_append, List.mem_singleton, or_assoc]
theorem c_lab32 (hx : wfM x) {n : Nat} (hn : n = (co x).length) : ∀ f i M, i ≤ n → n - i < f → LbW w nq np nh m q0 h0 x M → nbM (tlN x i 0) n M → (∀ M', Fr S96 M M' → (∀ k, k ≤ n → mI M' 96 0 k = if tls x k = true then Int32.ofNat (rnk (tls x) k) else -1) → Q M') → w_Writer_labels_L32 0 Q f (Int32.ofNat m) (Int32.ofNat n) (Int32.ofNat i) M
  | 0, i, M, hi, hf, h, hm, hQ => absurd hf (by omega)
  | f + 1, i, M, hi, hf, h, hm, hQ => by
    have hc80 := hx.2.2.1.1
    obtain ⟨⟨r5, l96⟩, ⟨⟨l62, l63, l64, l65, hm3⟩, ⟨l66, l67, l68, l69⟩, -, b1, b2', b3⟩, ⟨e62, -, e64, -, e5, e6⟩, hI, -⟩ := id h
    unfold w_Writer_labels_L32
    by_cases e : i = n
    · refine itp (le_oN (by omega) (by omega)) ⟨w, r5, by rw [l64]; exact (vp_oN (by omega)).mpr hm3, (hs x).length + 1, ?_⟩
      rw [oN_tnc (k := m) (by omega), e64, show (4 : Int32) * Int32.ofNat h0 = Int32.ofNat (4 * (h0 + 0)) from oN_mul 4 _]
      rw [e] at hm
      exact c_lab170 hx hn _ 0 M (Nat.zero_le _) (by omega) h hm hQ
    have hi2 : i < (co x).length := by omega
    refine itn (nle_oN (by omega) (by omega)) ⟨w, r5, by rw [l62]; exact (vp_oN (by omega)).mpr hm3, w, r5, ?_⟩
    obtain ⟨⟨e66, ho62⟩, hJ, -, hN⟩ := hI i hi2
    rw [oN_tnc (k := m) (by omega), e62, oN_add, oN_tnc (k := q0 + i) (by omega), e66]
    refine ⟨(vp_oN (by omega)).mpr (by omega), ?_⟩
    have go : ∀ M1, Fr S96 M M1 → nbM (tlN x (i + 1) 0) n M1 → w_Writer_labels_L32 0 Q f (Int32.ofNat m) (Int32.ofNat n) (Int32.ofNat (i + 1)) M1 := fun M1 f1 t1 => c_lab32 hx hn f (i + 1) M1 (by omega) (by omega) (h.fr f1) t1 (fun M2 f2 t2 => hQ M2 (f1.trans f2) t2)
    have hT : ∀ k, (tlN x i 0 k ∨ k ∈ iT (gin (co x) i)) ↔ tlN x (i + 1) 0 k := fun k => by
      constructor
      · rintro ((⟨j, hj, z⟩ | ⟨j, hj, -⟩) | z)
        · exact Or.inl ⟨j, by omega, z⟩
        · exact absurd hj (by omega)
        · exact Or.inl ⟨i, by omega, z⟩
      · rintro (⟨j, hj, z⟩ | ⟨j, hj, -⟩)
        · by_cases ej : j = i
          · rw [ej] at z; exact Or.inr z
          · exact Or.inl (Or.inl ⟨j, by omega, z⟩)
        · exact absurd hj (by omega)
    have skip : ∀ M1, Fr S96 M M1 → nbM (tlN x (i + 1) 0) n M1 → (gin (co x) i).1 ≠ 40 → w_Writer_labels_j86 0 Q (w_Writer_labels_L32 0 Q f) (Int32.ofNat m) (Int32.ofNat n) (Int32.ofNat i) (Int32.ofNat (q0 + i)) M1 := fun M1 f1 t1 ho => by
      have h1 := h.fr f1
      unfold w_Writer_labels_j86
      refine ⟨1, ?_⟩
      unfold w_Writer_labels_L89
      refine ⟨w, h1.1.1, ?_⟩
      have l66' := h1.2.1.2.1.1
      rw [oN_tnc (k := q0 + i) (by omega), (f1.Ia rfl rfl w _).trans e66]
      refine ⟨(vp_oN (by omega)).mpr (by omega), itn (fun z => ho ((oN_inj (b := 40) (by omega) (by omega)).mp z)) ?_⟩
      unfold w_Writer_labels_j152
      rw [lit32 1, oN_add]
      exact go M1 f1 t1
    refine c_isInN (lo := 23) (hi := 39) (by omega) (by omega) (by omega) ?_
    by_cases cj : isJ (gin (co x) i).1
    · rw [decide_eq_true cj]
      obtain ⟨e67, hl1⟩ := hJ cj
      have htn := wf_t hx hi2 (gtn_mem (l := iT (gin (co x) i)) (j := 0) (by omega))
      refine itn (by decide) ⟨w, r5, (vp_oN (by omega)).mpr (by omega), ?_⟩
      rw [e67, oN_tnc (k := gtn (iT (gin (co x) i)) 0) (by omega), l96]
      refine ⟨(vp_oN (by omega)).mpr (by omega), _, rfl, skip _ (Fr.wIa rfl rfl (Fr.rf _ _)) (hm.set (fun k => ?_)) (by unfold isJ at cj; omega)⟩
      rw [← hT k]
      have el : iT (gin (co x) i) = [gtn (iT (gin (co x) i)) 0] := by
        match hq : iT (gin (co x) i), hl1 with
        | [y], _ => rfl
      rw [show (k ∈ iT (gin (co x) i)) ↔ k = gtn (iT (gin (co x) i)) 0 from by rw [el]; exact List.mem_singleton]
    · rw [decide_eq_false cj]
      refine itp rfl ?_
      by_cases ho : (gin (co x) i).1 = 40
      · unfold w_Writer_labels_j86
        refine ⟨(iT (gin (co x) i)).length + 1, c_lab89 (T := tlN x i 0) hx hn hi2 ho _ 0 M (Nat.zero_le _) (by omega) h (hm.of (fun k => ?_)) (fun M1 f1 t1 => go M1 f1 (t1.of hT))⟩
        rw [List.take_zero]
        exact ⟨Or.inl, fun z => z.resolve_right (by simp)⟩
      · refine skip M (Fr.rf _ _) (hm.of (fun k => ?_)) ho
        rw [← hT k, hN cj ho]
        exact ⟨Or.inl, fun z => z.resolve_right (by simp)⟩
theorem c_lab12 (hx : wfM x) {n : Nat} (hn : n = (co x).length) : ∀ f k M, k ≤ n + 1 → n + 1 - k < f → LbW w nq np nh m q0 h0 x M → (∀ j, j < k → mI M 96 0 j = -1) → (∀ M', Fr S96 M M' → (∀ k, k ≤ n → mI M' 96 0 k = if tls x k = true then Int32.ofNat (rnk (tls x) k) else -1) → Q M') → w_Writer_labels_L12 0 Q f (Int32.ofNat m) (Int32.ofNat n) (Int32.ofNat k) M
  | 0, k, M, hk, hf, h, hm, hQ => absurd hf (by omega)
  | f + 1, k, M, hk, hf, h, hm, hQ => by
    have hc80 := hx.2.2.1.1
    unfold w_Writer_labels_L12
    by_cases e : k = n + 1
    · refine itp (lt_oN (by omega) (by omega)) ⟨n + 1, c_lab32 hx hn _ 0 M (Nat.zero_le _) (by omega) h (fun j hj => ⟨fun z => ?_, fun _ => hm j (by omega)⟩) hQ⟩
      rcases z with ⟨y, hy, -⟩ | ⟨y, hy, -⟩ <;> exact absurd hy (by omega)
    refine itn (nlt_oN (by omega) (by omega)) ?_
    rw [oN_tnc (k := k) (by omega), h.1.2]
    refine ⟨(vp_oN (by omega)).mpr (by omega), ?_⟩
    rw [lit32 1, oN_add]
    have f1 : Fr S96 M (sI M 96 0 k (-1)) := Fr.wIa rfl rfl (Fr.rf _ _)
    refine c_lab12 hx hn f (k + 1) _ (by omega) (by omega) (h.fr f1) (fun j hj => ?_) (fun M2 f2 t2 => hQ M2 (f1.trans f2) t2)
    rw [mI_sI]
    by_cases ej : j = k
    · rw [if_pos ⟨rfl, rfl, ej⟩]; rfl
    · rw [if_neg (fun z => ej z.2.2)]; exact hm j (by omega)
theorem c_labels (hx : wfM x) (h : LbW w nq np nh m q0 h0 x M) (hQ : ∀ M', Fr S96 M M' → (∀ k, k ≤ (co x).length → mI M' 96 0 k = if tls x k = true then Int32.ofNat (rnk (tls x) k) else -1) → Q M') : w_Writer_labels 0 (Int32.ofNat m) Q M := by
  obtain ⟨⟨r5, l96⟩, ⟨⟨l62, l63, l64, l65, hm3⟩, -⟩, ⟨-, e63, -⟩, -⟩ := id h
  unfold w_Writer_labels
  refine ⟨w, r5, by rw [l63]; exact (vp_oN (by omega)).mpr hm3, (co x).length + 2, ?_⟩
  rw [oN_tnc (k := m) (by omega), e63]
  exact c_lab12 hx rfl _ 0 M (Nat.zero_le _) (by omega) h (fun j hj => absurd hj (by omega)) hQ
end
