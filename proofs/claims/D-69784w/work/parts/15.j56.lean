/-! THE OPERATION shrink: SPEC -/
/-- whether two outcomes are as they were (sealed) -/
noncomputable def sm2 (L : Trl) (br : Int32) (o0 o1 : Int32 × Int32) : Bool := Classical.choose (⟨_, rfl⟩ : ∃ v : Bool, v = decide (outS L 0 = o0 ∧ outS L br = o1))
theorem sm2_df (L : Trl) (br : Int32) (o0 o1 : Int32 × Int32) : sm2 L br o0 o1 = decide (outS L 0 = o0 ∧ outS L br = o1) := Classical.choose_spec (⟨_, rfl⟩ : ∃ v : Bool, v = decide (outS L 0 = o0 ∧ outS L br = o1))
noncomputable def shF (br : Int32) (o0 o1 : Int32 × Int32) : Nat → Trl → Trl
  | 0, L => L
  | k + 1, L => shF br o0 o1 k (if sm2 (L.eraseIdx k) br o0 o1 = true then L.eraseIdx k else L)
noncomputable def shL (L : Trl) (br : Int32) : Trl := shF br (outS L 0) (outS L br) (L.length - 1) L
noncomputable def shkO (T : List Trl) (a b : Int32) : Int32 × List Trl := if a < 0 ∨ Int32.ofNat T.length ≤ a then (-1, T) else if b < 0 ∨ 255 < b then (-1, T) else (Int32.ofNat (shL (gTr T a.toNatClampNeg) b).length, T.set a.toNatClampNeg (shL (gTr T a.toNatClampNeg) b))
section
variable {L L' : Trl} {k m : Nat} {BB : List Nm} {U1 : List (List Kd × Kd)} {T : List Trl} {t : Nat}
theorem er_td : L.eraseIdx k = L.take k ++ L.drop (k + 1) := List.eraseIdx_eq_take_drop_succ ..
theorem txt_er : txt (L.eraseIdx k) = txt (L.take k) ++ txt (L.drop (k + 1)) := by rw [er_td, txt_app]
theorem txt_td : txt L = txt (L.take k) ++ txt (L.drop k) := by rw [← txt_app, List.take_append_drop]
theorem er_last (h : k + 1 < L.length) : (L.eraseIdx k).getLastD [] = L.getLastD [] := by
  have hne : L.drop (k + 1) ≠ [] := fun z => by
    have := congrArg List.length z
    rw [List.length_drop] at this
    simp at this; omega
  rcases List.eq_nil_or_concat (L.drop (k + 1)) with e | ⟨l, a, e⟩
  · exact absurd e hne
  · rw [List.concat_eq_append] at e
    rw [er_td, e, ← List.append_assoc, List.getLastD_concat]
    have : L = (L.take (k + 1) ++ l) ++ [a] := by rw [List.append_assoc, ← e, List.take_append_drop]
    rw [this, List.getLastD_concat]
theorem er_len (h : k < L.length) : (L.eraseIdx k).length = L.length - 1 := by rw [List.length_eraseIdx, if_pos h]
theorem txt_er_le : (txt (L.eraseIdx k)).length ≤ (txt L).length := by
  have : txt (L.drop k) = txt ((L.drop k).take 1) ++ txt (L.drop (k + 1)) := by
    have := txt_td (L := L.drop k) (k := 1)
    rw [List.drop_drop, Nat.add_comm] at this
    rw [Nat.add_comm]; exact this
  rw [txt_er, txt_td (L := L) (k := k), List.length_append, List.length_append, this, List.length_append]
  omega
theorem TrO.er (h : TrO L) (hk : k + 1 < L.length) : TrO (L.eraseIdx k) := by
  obtain ⟨⟨h1, h2⟩, h3, h4, x, hx⟩ := h
  have hl := er_len (L := L) (k := k) (by omega)
  have hle := txt_er_le (L := L) (k := k)
  refine ⟨⟨fun z => ?_, by omega⟩, by omega, fun l hl => h4 l (List.mem_of_mem_eraseIdx hl), x, by rw [er_last hk]; exact hx⟩
  rw [z] at hl
  simp at hl
  omega
theorem nmL.er (h : nmL BB L) : nmL BB (L.eraseIdx k) := fun l hl => h l (List.mem_of_mem_eraseIdx hl)
theorem ulL.er (h : ulL U1 L) : ulL U1 (L.eraseIdx k) := fun l hl => h l (List.mem_of_mem_eraseIdx hl)
theorem gTr_set {i : Nat} (ht : t < T.length) : gTr (T.set t L') i = if i = t then L' else gTr T i := by
  show (T.set t L').getD i [] = if i = t then L' else T.getD i []
  rw [List.getD_eq_getElem?_getD, List.getElem?_set, List.getD_eq_getElem?_getD]
  by_cases e : t = i
  · rw [if_pos e, if_pos e.symm, if_pos ht]; rfl
  · rw [if_neg e, if_neg (fun z => e z.symm)]
/-- a line begins behind the end of a line -/
theorem gi_pre (hm : m ≤ L.length) (h0 : 0 < (txt (L.take m)).length) : gi (txt L) ((txt (L.take m)).length - 1) = 10 := by
  cases m with
  | zero => exact absurd h0 (by show ¬ 0 < 0; omega)
  | succ m =>
    have hl := len_ln (show m < L.length by omega)
    rw [show (txt (L.take (m + 1))).length - 1 = (txt (L.take m)).length + (glL L m).length by omega, gi_ln (by omega) (Nat.le_refl _)]
    exact gi_e
theorem txt_pos (hk : 0 < k) (hk2 : k ≤ L.length) : 0 < (txt (L.take k)).length := by
  cases k with
  | zero => exact absurd hk (Nat.lt_irrefl 0)
  | succ k =>
    have := len_ln (show k < L.length by omega)
    omega
theorem drop_ln {k : Nat} : (txt (L.drop k)).length = (txt L).length - (txt (L.take k)).length := by
  have := congrArg List.length (txt_td (L := L) (k := k))
  rw [List.length_append] at this
  omega
theorem gi_dr {k x : Nat} (h : k ≤ L.length) : gi (txt (L.drop k)) x = gi (txt L) ((txt (L.take k)).length + x) := by
  rw [txt_td (L := L) (k := k), gi_r]
theorem sh_ok (br : Int32) (o0 o1 : Int32 × Int32) : ∀ k (L : Trl), k + 1 ≤ L.length → TrO L → TrO (shF br o0 o1 k L) ∧ (∀ l ∈ shF br o0 o1 k L, l ∈ L)
  | 0, L, _, h => ⟨h, fun _ z => z⟩
  | k + 1, L, hk, h => by
    unfold shF
    by_cases c : sm2 (L.eraseIdx k) br o0 o1 = true
    · rw [if_pos c]
      have hl := er_len (L := L) (k := k) (by omega)
      obtain ⟨a, b⟩ := sh_ok br o0 o1 k (L.eraseIdx k) (by omega) (h.er (by omega))
      exact ⟨a, fun l hl => List.mem_of_mem_eraseIdx (b l hl)⟩
    · rw [if_neg c]
      exact sh_ok br o0 o1 k L (by omega) h
end
