/-! the rules that a text can break while it is read: 1 to 14 -/
section
variable {e : Nat × Nat} {ts : List Tok}
theorem pSign_e {b : Nat} (h : pSign b ts = .inl e) : e.1 = 1 := by
  unfold pSign at h; split at h
  · cases h
  · cases h; rfl
theorem pName_e (h : pName ts = .inl e) : e.1 = 1 := by
  unfold pName at h; split at h
  · cases h
  · cases h; rfl
theorem pCls_e (h : pCls ts = .inl e) : e.1 = 1 := by
  unfold pCls at h; split at h
  · cases h
  · cases h; rfl
theorem pNum_e {a b : Int32} (h : pNum a b ts = .inl e) : e.1 = 1 := by
  unfold pNum at h; split at h
  · cases h
  · cases h; rfl
theorem pType_e (h : pType ts = .inl e) : e.1 = 1 := by
  unfold pType at h; split at h
  · cases h
  split at h
  · cases h
  split at h
  · rename_i q; cases h; exact pCls_e q
  · cases h
theorem pRes_e (h : pRes ts = .inl e) : e.1 = 1 := by
  unfold pRes at h; split at h
  · cases h
  · exact pType_e h
theorem pTypesF_e1 {s : Bool} : ∀ n acc (ts : List Tok) e, pTypesF s n acc ts = .inl e → e.1 = 1
  | 0, _, _, _, h => by unfold pTypesF at h; cases h; rfl
  | n + 1, acc, ts, e, h => by
    unfold pTypesF at h
    split at h
    · cases h
    split at h
    · rename_i q
      cases h
      split at q
      · cases q
      · exact pSign_e q
    · split at h
      · cases h; rfl
      split at h
      · rename_i q; cases h; exact pType_e q
      · exact pTypesF_e1 n _ _ _ h
theorem pTypes_e {s : Bool} (h : pTypes s ts = .inl e) : e.1 = 1 := by
  unfold pTypes at h
  split at h
  · rename_i q; cases h; exact pSign_e q
  · exact pTypesF_e1 _ _ _ _ h
theorem pSig_e (h : pSig ts = .inl e) : e.1 = 1 := by
  unfold pSig at h
  split at h
  · rename_i q; cases h; exact pTypes_e q
  split at h
  · rename_i q; cases h; exact pRes_e q
  · cases h
theorem pFaces_e : ∀ n acc (ts : List Tok) e, pFaces n acc ts = .inl e → e.1 = 1
  | 0, _, _, _, h => by unfold pFaces at h; cases h; rfl
  | n + 1, acc, ts, e, h => by
    unfold pFaces at h
    split at h
    · cases h
    split at h
    · rename_i q; cases h; exact pSign_e q
    split at h
    · rename_i q; cases h; exact pCls_e q
    · exact pFaces_e n _ _ _ h
theorem pClassT_e (h : pClassT ts = .inl e) : e.1 = 1 := by
  unfold pClassT at h
  split at h
  · split at h
    · rename_i q; cases h; exact pCls_e q
    split at h
    · rename_i q; cases h; exact pSign_e q
    split at h
    · rename_i q; cases h; exact pCls_e q
    split at h
    · rename_i q; cases h; exact pFaces_e _ _ _ _ q
    · cases h
  · cases h; rfl
theorem pClass_e (h : pClass ts = .inl e) : e.1 = 1 := by
  unfold pClass at h
  split at h
  split at h
  · rename_i q; cases h; exact pClassT_e q
  · cases h
theorem pPicks_e : ∀ n acc (ts : List Tok) e, pPicks n acc ts = .inl e → e.1 = 1
  | 0, _, _, _, h => by unfold pPicks at h; cases h; rfl
  | n + 1, acc, ts, e, h => by
    unfold pPicks at h
    split at h
    · cases h
    split at h
    · rename_i q
      cases h
      split at q
      · cases q
      · exact pSign_e q
    split at h
    · rename_i q; cases h; exact pName_e q
    · exact pPicks_e n _ _ _ h
theorem pMember_e {m : Bool} (h : pMember m ts = .inl e) : e.1 = 1 := by
  unfold pMember at h
  split at h
  · rename_i q; cases h; exact pCls_e q
  split at h
  · rename_i q; cases h; exact pSign_e q
  split at h
  · split at h
    · split at h
      · rename_i q; cases h; exact pSig_e q
      · cases h
    · split at h
      · rename_i q; cases h; exact pType_e q
      · cases h
  · cases h; rfl
theorem pOpr_e {o : Nat} (h : pOpr o ts = .inl e) : e.1 = 1 := by
  unfold pOpr at h
  split at h
  · split at h
    · rename_i q; cases h; exact pNum_e q
    · cases h
  split at h
  · split at h
    · rename_i q; cases h; exact pNum_e q
    · cases h
  split at h
  · split at h
    · rename_i q; cases h; exact pNum_e q
    split at h
    · rename_i q; cases h; exact pNum_e q
    · cases h
  split at h
  · split at h
    · rename_i q; cases h; exact pName_e q
    · cases h
  split at h
  · split at h
    · rename_i q; cases h; exact pNum_e q
    split at h
    · rename_i q; cases h; exact pPicks_e _ _ _ _ q
    · cases h
  split at h
  · split at h
    · rename_i q; cases h; exact pCls_e q
    · cases h
  split at h
  · split at h
    · rename_i q; cases h; exact pMember_e q
    · cases h
  split at h
  · split at h
    · rename_i q; cases h; exact pMember_e q
    · cases h
  · cases h
theorem pInstr_e (h : pInstr ts = .inl e) : e.1 = 1 := by
  unfold pInstr at h
  split at h
  · split at h
    · rename_i q; cases h; exact pOpr_e q
    split at h
    · cases h
    · cases h; rfl
  · cases h; rfl
theorem pKind_e (h : pKind ts = .inl e) : e.1 = 1 := by
  unfold pKind at h
  split at h
  · cases h
  split at h
  · cases h
  split at h
  · cases h
  · exact pType_e h
theorem pKinds_e {b : Nat} : ∀ n acc (ts : List Tok) e, pKinds b n acc ts = .inl e → e.1 = 1
  | 0, _, _, _, h => by unfold pKinds at h; cases h; rfl
  | n + 1, acc, ts, e, h => by
    unfold pKinds at h
    split at h
    · cases h
    split at h
    · rename_i q
      cases h
      split at q
      · cases q
      · exact pSign_e q
    split at h
    · rename_i q; cases h; exact pKind_e q
    · exact pKinds_e n _ _ _ h
theorem pFrame_e (h : pFrame ts = .inl e) : e.1 = 1 := by
  unfold pFrame at h
  split at h
  · rename_i q; cases h; exact pKinds_e _ _ _ _ q
  split at h
  · rename_i q; cases h; exact pKinds_e _ _ _ _ q
  · cases h
theorem pHandler_e (h : pHandler ts = .inl e) : e.1 = 1 := by
  unfold pHandler at h
  split at h
  · rename_i q; cases h; exact pName_e q
  split at h
  · rename_i q; cases h; exact pName_e q
  split at h
  · rename_i q; cases h; exact pName_e q
  split at h
  · rename_i q
    cases h
    split at q
    · cases q
    · exact pCls_e q
  split at h
  · cases h
  · cases h; rfl
theorem pRoom_e (h : pRoom ts = .inl e) : e.1 = 1 := by
  unfold pRoom at h
  split at h
  · split at h
    · rename_i q; cases h; exact pNum_e q
    split at h
    · rename_i q; cases h; exact pNum_e q
    split at h
    · cases h
    · cases h; rfl
  · cases h; rfl
theorem pFieldT_e (h : pFieldT ts = .inl e) : e.1 = 1 := by
  unfold pFieldT at h
  split at h
  · rename_i q; cases h; exact pName_e q
  split at h
  · rename_i q; cases h; exact pType_e q
  split at h
  · split at h
    · rename_i q; cases h; exact pNum_e q
    split at h
    · cases h
    · cases h; rfl
  split at h
  · cases h
  · cases h; rfl
theorem pField_e (h : pField ts = .inl e) : e.1 = 1 := by
  unfold pField at h
  split at h
  split at h
  · rename_i q; cases h; exact pFieldT_e q
  · cases h
theorem pSigE_e (h : pSigE ts = .inl e) : e.1 = 1 := by
  unfold pSigE at h
  split at h
  · rename_i q; cases h; exact pSig_e q
  split at h
  · cases h
  · cases h; rfl
theorem pMethodT_e (h : pMethodT ts = .inl e) : e.1 = 1 := by
  unfold pMethodT at h
  split at h
  · split at h
    · rename_i q; cases h; exact pSigE_e q
    · cases h
  · cases h; rfl
theorem pMethod_e (h : pMethod ts = .inl e) : e.1 = 1 := by
  unfold pMethod at h
  split at h
  split at h
  · rename_i q; cases h; exact pMethodT_e q
  · cases h
def ru14 (n : Nat) : Prop := 1 ≤ n ∧ n ≤ 14
theorem ru_k {n : Nat} (h1 : Nat.ble 1 n = true) (h2 : Nat.ble n 14 = true) : ru14 n := ⟨Nat.le_of_ble_eq_true h1, Nat.le_of_ble_eq_true h2⟩
theorem ru_1 (h : e.1 = 1) : ru14 e.1 := by rw [h]; exact ⟨by decide, by decide⟩
theorem rulC_e {br bits : Int32} {W : List Cls} {own par : Nm} {fs : List Nm} : rulC br W bits own par fs = 99 ∨ ru14 (rulC br W bits own par fs) := by
  unfold rulC
  split
  · exact Or.inr ⟨by decide, by decide⟩
  split
  · exact Or.inr ⟨by decide, by decide⟩
  split
  · exact Or.inr ⟨by decide, by decide⟩
  split
  · exact Or.inr ⟨by decide, by decide⟩
  · exact Or.inl rfl
theorem rulF_e {br bits : Int32} {c : Cls} {own : Nm} {κ : Kd} {has : Bool} : rulF br c bits own κ has = 99 ∨ ru14 (rulF br c bits own κ has) := by
  unfold rulF
  split
  · exact Or.inr ⟨by decide, by decide⟩
  split
  · exact Or.inr ⟨by decide, by decide⟩
  split
  · exact Or.inr ⟨by decide, by decide⟩
  split
  · exact Or.inr ⟨by decide, by decide⟩
  · exact Or.inl rfl
theorem rulM_e {br bits : Int32} {c : Cls} {own : Nm} {ks : List Kd} {κ : Kd} : rulM br c bits own ks κ = 99 ∨ ru14 (rulM br c bits own ks κ) := by
  unfold rulM
  split
  · exact Or.inr ⟨by decide, by decide⟩
  split
  · exact Or.inr ⟨by decide, by decide⟩
  split
  · exact Or.inr ⟨by decide, by decide⟩
  split
  · exact Or.inr ⟨by decide, by decide⟩
  split
  · exact Or.inr ⟨by decide, by decide⟩
  split
  · exact Or.inr ⟨by decide, by decide⟩
  · exact Or.inl rfl
theorem endM_e {n : Nat} {p : PM} (h : endM n p = .inl e) : ru14 e.1 := by
  unfold endM at h
  split at h
  · cases h; exact ru_k rfl rfl
  split at h
  · cases h; exact ru_k rfl rfl
  split at h
  · cases h; exact ru_k rfl rfl
  · cases h
theorem bLine_e {br : Int32} {W : List Cls} {l : List Tok} (h : bLine br W l = .inl e) : ru14 e.1 := by
  unfold bLine at h
  split at h
  · split at h
    · rename_i q; cases h; exact ru_1 (pField_e q)
    split at h
    · cases h
    · rename_i q; cases h; exact rulF_e.resolve_left q
  split at h
  · split at h
    · rename_i q; cases h; exact ru_1 (pMethod_e q)
    split at h
    · split at h
      · cases h
      · cases h
    · rename_i q; cases h; exact rulM_e.resolve_left q
  split at h
  · split at h
    · cases h
    · cases h; exact ru_1 rfl
  · cases h; exact ru_1 rfl
theorem stp_e {br : Int32} {st : PSt} {l : List Tok} (hs : stp br st l = .inl e) : ru14 e.1 := by
  unfold stp at hs
  split at hs
  · unfold cLine at hs
    split at hs
    · rename_i q; cases hs; exact ru_1 (pClass_e q)
    split at hs
    · cases hs
    · rename_i q; cases hs; exact rulC_e.resolve_left q
  split at hs
  · exact bLine_e hs
  split at hs
  · unfold rLine at hs
    split at hs
    · rename_i q; cases hs; exact ru_1 (pRoom_e q)
    · rename_i a b _ hq
      by_cases hlt : b < Int32.ofNat (st.2.2.1.2.1.length + (if st.2.2.1.2.2.2.1 &&& 1 = 0 then 1 else 0))
      · rw [if_pos hlt] at hs; cases hs; exact ru_k rfl rfl
      · rw [if_neg hlt] at hs; cases hs
  unfold kLine at hs
  split at hs
  · split at hs
    · rename_i q; cases hs; exact endM_e q
    · exact bLine_e hs
  split at hs
  · split at hs
    · cases hs; exact ru_1 rfl
    split at hs
    · rename_i q; cases hs; exact ru_1 (pFrame_e q)
    · cases hs
  split at hs
  · split at hs
    · rename_i q; cases hs; exact ru_1 (pHandler_e q)
    split at hs
    · cases hs; exact ru_k rfl rfl
    · cases hs
  unfold iLine at hs
  split at hs
  split at hs
  · cases hs
  split at hs
  · rename_i q; cases hs; exact ru_1 (pInstr_e q)
  split at hs
  · cases hs; exact ru_k rfl rfl
  · cases hs
theorem runL_e {br : Int32} {n : Nat} : ∀ {ls : List (List Tok)} {st : PSt}, runL br n st ls = .inl e → ru14 e.1
  | [], st, h => by
    unfold runL at h
    split at h
    · cases h
    · cases h; exact ru_k rfl rfl
  | l :: ls, st, h => by
    unfold runL at h
    split at h
    · rename_i q; cases h; exact stp_e q
    · exact runL_e h
end
