/-! SPEC: rules that are told are rules (printed by gen/ru.py) -/
def rK (r : Nat) : Prop := r = 0 ∨ (30 ≤ r ∧ r ≤ 43)
theorem fitK_rk {W : List Cls} {a b : Kd} : rK (fitK W a b) := by rcases fitK_val (W := W) (a := a) (b := b) with q | q | q <;> (rw [q]; unfold rK; omega)
theorem fitL_rk {W : List Cls} : ∀ {lo fl : List Kd}, rK (fitL W lo fl)
  | [], _ => by unfold fitL; (unfold rK at *; omega)
  | a :: lo, fl => by
    unfold fitL
    split
    · exact fitL_rk
    · exact fitK_rk
theorem fitS_rk {W : List Cls} {lo st fl fs : List Kd} : rK (fitS W lo st fl fs) := by
  unfold fitS
  split
  · exact fitL_rk
  · split
    · (unfold rK at *; omega)
    · exact fitL_rk
theorem goesS_rk {W : List Cls} {x : Mth} {lo st : List Kd} {t : Nat} : rK (goesS W x lo st t) := by
  unfold goesS
  cases frOf x t with
  | none => show rK ((36 : Nat)); (unfold rK at *; omega)
  | some f =>
    show rK ((if wrongF x f.1 f.2 = true then 38 else fitS W lo st f.1 f.2))
    split
    · (unfold rK at *; omega)
    · exact fitS_rk
theorem handOne_rk {W : List Cls} {x : Mth} {lo : List Kd} {h : Hnd} : rK (handOne W x lo h) := by
  unfold handOne
  cases frOf x h.2.2.1 with
  | none => show rK ((36 : Nat)); (unfold rK at *; omega)
  | some f =>
    show rK ((if wrongF x f.1 f.2 = true then 38 else if f.2.length ≠ 1 then 37 else if fitL W lo f.1 ≠ 0 then fitL W lo f.1 else fitK W _ (gk f.2 0)))
    split
    · (unfold rK at *; omega)
    · split
      · (unfold rK at *; omega)
      · split
        · exact fitL_rk
        · exact fitK_rk
theorem handS_rk {W : List Cls} {x : Mth} {lo : List Kd} {a : Nat} : ∀ {H : List Hnd}, rK (handS W x lo a H)
  | [] => by unfold handS; (unfold rK at *; omega)
  | h :: H => by
    unfold handS
    split
    · exact handS_rk
    · split
      · exact handS_rk
      · exact handOne_rk
theorem pickS_rk {W : List Cls} {x : Mth} {lo st : List Kd} {ts : List Nat} : ∀ {n k : Nat}, rK (pickS W x lo st ts n k)
  | 0, _ => by unfold pickS; (unfold rK at *; omega)
  | n + 1, k => by
    unfold pickS
    split
    · exact pickS_rk
    · exact goesS_rk
theorem wOne_rk {W : List Cls} {t : Wt} {κ : Kd} : rK (wOne W t κ) := by
  unfold wOne
  repeat' split
  all_goals (first | (unfold rK; omega))
theorem wFst_rk {W : List Cls} {st : List Kd} : ∀ {ws : List Wt} {k : Nat}, rK (wFst W st k ws)
  | [], _ => by unfold wFst; (unfold rK at *; omega)
  | t :: ws, k => by
    unfold wFst
    split
    · exact wFst_rk
    · exact wOne_rk
theorem takeS_rk {W : List Cls} {st : List Kd} {ws : List Wt} : rK (takeS W st ws) := by
  unfold takeS
  split
  · (unfold rK at *; omega)
  · split
    · exact wFst_rk
    · split <;> (unfold rK at *; omega)
theorem takenS_rk {W : List Cls} {c : Nat} {x : Mth} {i : Ins} {lo st : List Kd} : rK (takenS W c x i lo st) := by
  unfold takenS
  split
  · (unfold rK at *; omega)
  · split
    · exact takeS_rk
    · split <;> (unfold rK at *; omega)
theorem ownS_rk {W : List Cls} {c : Nat} {x : Mth} {i : Ins} {lo st : List Kd} : rK (ownS W c x i lo st) := by
  unfold ownS
  repeat' split
  all_goals (first | (unfold rK; omega))
theorem thenS_rk {W : List Cls} {x : Mth} {i : Ins} {a : Nat} {lo st : List Kd} : rK (thenS W x i a lo st) := by
  unfold thenS
  split
  · exact handS_rk
  · split
    · exact goesS_rk
    · split
      · exact pickS_rk
      · (unfold rK at *; omega)
theorem stepS_rk {W : List Cls} {c : Nat} {x : Mth} {a r : Nat} {lo st : List Kd} (h : stepS W c x a lo st = .inl r) : rK (r) := by
  unfold stepS at h
  repeat' split at h
  all_goals first
    | (cases h; done)
    | (injection h with h; subst h; first | exact handS_rk | exact takenS_rk | exact ownS_rk | exact thenS_rk | (unfold rK at *; omega))
theorem oneS_rk {W : List Cls} {c : Nat} {x : Mth} {a r : Nat} {s : KSt} (h : oneS W c x a s = .inl r) : rK (r) := by
  unfold oneS at h
  split at h
  · split at h
    · exact stepS_rk h
    · injection h with h; (unfold rK at *; omega)
  · split at h
    · injection h with h; (unfold rK at *; omega)
    · split at h
      · injection h with h; subst h; exact fitS_rk
      · exact stepS_rk h
theorem allS_rk {W : List Cls} {c : Nat} {x : Mth} : ∀ {n a : Nat} {s : KSt}, rK ((allS W c x n a s).1)
  | 0, _, _ => by unfold allS; (unfold rK at *; omega)
  | n + 1, a, s => by
    unfold allS
    split
    · rename_i e; exact oneS_rk e
    · exact allS_rk
theorem chkM_rk {W : List Cls} {c : Nat} {x : Mth} : rK ((chkM W c x).1) := allS_rk

/-- the numbers of rules -/
def isRu (r : Nat) : Prop := (1 ≤ r ∧ r ≤ 14) ∨ (20 ≤ r ∧ r ≤ 25) ∨ (30 ≤ r ∧ r ≤ 43) ∨ (50 ≤ r ∧ r ≤ 59)
/-- a code: 0, 1, or 100 times a rule and something -/
def cdR (r : Int32) : Prop := r = 0 ∨ r = 1 ∨ ∃ n, n < 10000 ∧ isRu (n / 100) ∧ r = Int32.ofNat n
def LG (s : LkS) : Prop := ∀ c, cdR (s.1 c)
theorem chkC_rl {W : List Cls} {c : Nat} : ∀ {L : List Mth} {k j r a : Nat}, chkC W c k L = some (j, r, a) → 30 ≤ r ∧ r ≤ 43
  | [], _, _, _, _, h => by cases h
  | x :: xs, k, j, r, a, h => by
    unfold chkC at h
    split at h
    · exact chkC_rl h
    · rename_i h0
      cases h
      rcases chkM_rk (W := W) (c := c) (x := x) with z | z
      · exact absurd z h0
      · exact z
theorem lkEnd_rl {br : Int32} {W : List Cls} {c : Nat} {s : LkS} (h : LG s) : cdR (lkEnd br W c s).1 ∧ LG (lkEnd br W c s).2 := by
  unfold lkEnd
  split
  · exact ⟨Or.inr (Or.inr ⟨2515, by omega, by unfold isRu; omega, rfl⟩), h⟩
  split
  · exact ⟨Or.inr (Or.inl rfl), h⟩
  · rename_i j r a e
    have := chkC_rl e
    refine ⟨Or.inr (Or.inr ⟨100 * r + 17, by omega, by unfold isRu; omega, ?_⟩), h⟩
    show 100 * Int32.ofNat r + 17 = _
    rw [lit32 100, oN_mul, lit32 17, oN_add]
theorem badF_rl {W : List Cls} : ∀ {L : List Nm} {r : Int32}, badF W L = some r → cdR r
  | [], _, h => by cases h
  | f :: L, r, h => by
    unfold badF at h
    split at h
    · cases h; exact Or.inr (Or.inr ⟨2211, by omega, by unfold isRu; omega, rfl⟩)
    · split at h
      · exact badF_rl h
      · cases h; exact Or.inr (Or.inr ⟨2315, by omega, by unfold isRu; omega, rfl⟩)
theorem lkFs_rl {K : LkS → Nat → Int32 × LkS} {W : List Cls} (hK : ∀ s d, LG s → cdR (K s d).1 ∧ LG (K s d).2) : ∀ (L : List Nm) (s : LkS), LG s → (∀ r, (lkFs K W L s).1 = some r → cdR r) ∧ LG (lkFs K W L s).2
  | [], s, h => ⟨fun r z => (by cases z), h⟩
  | f :: L, s, h => by
    unfold lkFs
    split
    · exact ⟨fun r z => by cases z; exact Or.inl rfl, h⟩
    · rename_i d _
      split
      · exact lkFs_rl hK L _ (hK s d h).2
      · exact ⟨fun r z => by cases z; exact (hK s d h).1, (hK s d h).2⟩
theorem askF_rl {br : Int32} {W : List Cls} {K : LkS → Nat → Int32 × LkS} (hK : ∀ s d, LG s → cdR (K s d).1 ∧ LG (K s d).2) (s : LkS) (c : Nat) (h : LG s) : cdR (askF br W K s c).1 ∧ LG (askF br W K s c).2 := by
  unfold askF
  split
  · exact ⟨Or.inr (Or.inr ⟨2416, by omega, by unfold isRu; omega, rfl⟩), h⟩
  split
  · exact ⟨Or.inr (Or.inr ⟨2011, by omega, by unfold isRu; omega, rfl⟩), h⟩
  split
  · exact ⟨Or.inr (Or.inr ⟨2115, by omega, by unfold isRu; omega, rfl⟩), h⟩
  split
  · rename_i e
    exact ⟨badF_rl e, h⟩
  rename_i p _ _ _ _
  split
  · have hf := lkFs_rl hK (W := W) (gc W c).2.2.1 _ (hK s p h).2
    split
    · rename_i e
      rw [e] at hf
      exact ⟨hf.1 _ rfl, hf.2⟩
    · rename_i e
      rw [e] at hf
      exact lkEnd_rl hf.2
  · exact hK s p h
theorem lkN_rl {br : Int32} {W : List Cls} : ∀ n s c, LG s → cdR (lkN br W n s c).1 ∧ LG (lkN br W n s c).2
  | 0, s, c, h => ⟨Or.inl rfl, h⟩
  | n + 1, s, c, h => by
    unfold lkN
    by_cases e : s.1 c = 0
    · rw [if_pos e]
      obtain ⟨a, b⟩ := askF_rl (br := br) (W := W) (lkN_rl n) s c h
      refine ⟨a, fun d => ?_⟩
      show cdR (LSm _ c _ d)
      unfold LSm
      split
      · exact a
      · exact b d
    · rw [if_neg e]; exact ⟨h c, h⟩
/-- what is thrown tells a rule -/
def thR {α : Type} : Int32 ⊕ α → Prop
  | .inl e => ∃ n, n < 10000 ∧ isRu (n / 100) ∧ e = Int32.ofNat n
  | .inr _ => True
section
variable {br : Int32} {W : List Cls}
theorem cdR.th {r : Int32} (h : cdR r) (h0 : r ≠ 0) (h1 : r ≠ 1) : ∃ n, n < 10000 ∧ isRu (n / 100) ∧ r = Int32.ofNat n := h.elim (fun z => absurd z h0) (fun z => z.elim (fun z => absurd z h1) id)
theorem lkd_rl {s : LkS} {k : Nm} (hB : LB s) (h : LG s) (h51 : W.length ≤ 51) : thR (lkd br W s k).1 ∧ LG (lkd br W s k).2 := by
  have hok := (lkd_ok (br := br) (k := k) hB h51).1
  unfold lkd at hok ⊢
  split
  · exact ⟨⟨5011, by omega, by unfold isRu; omega, rfl⟩, h⟩
  · rename_i c _
    have hl := lkN_rl (br := br) (W := W) 60 s c h
    split
    · exact ⟨trivial, hl.2⟩
    · rename_i e c1
      rw [e] at hok
      dsimp only at hok
      rw [if_neg c1] at hok
      exact ⟨hl.1.th hok.2.1 hok.2.2, hl.2⟩
theorem fFld_rl {a : LkS} {kn nm : Nm} {κ : Kd} {fx pt : Bool} {mc : Nat} {mn : Nm} (hB : LB a) (h : LG a) (h51 : W.length ≤ 51) : thR (fFld br W a kn nm κ fx pt mc mn).1 ∧ LG (fFld br W a kn nm κ fx pt mc mn).2 := by
  have hl := lkd_rl (br := br) (k := kn) hB h h51
  unfold fFld
  split
  · rename_i e s' el; rw [el] at hl; exact hl
  · rename_i c s' el
    rw [el] at hl
    split
    · exact ⟨⟨5112, by omega, by unfold isRu; omega, rfl⟩, hl.2⟩
    · refine ⟨?_, hl.2⟩
      show thR (fFld2 br W fx pt mc mn _)
      unfold fFld2
      split
      · exact ⟨5314, by omega, by unfold isRu; omega, rfl⟩
      split
      · exact ⟨5515, by omega, by unfold isRu; omega, rfl⟩
      repeat' split
      all_goals first | trivial | exact ⟨5414, by omega, by unfold isRu; omega, rfl⟩
theorem fMth_rl {a : LkS} {kn : Nm} {x : Mth} {o : Nat} {acc : Nat → Bool} (hB : LB a) (h : LG a) (h51 : W.length ≤ 51) : thR (fMth br W a kn x o acc).1 ∧ LG (fMth br W a kn x o acc).2 := by
  have hl := lkd_rl (br := br) (k := kn) hB h h51
  unfold fMth
  split
  · rename_i e s' el; rw [el] at hl; exact hl
  · rename_i c s' el
    rw [el] at hl
    split
    · exact ⟨⟨5615, by omega, by unfold isRu; omega, rfl⟩, hl.2⟩
    split
    · exact ⟨⟨5213, by omega, by unfold isRu; omega, rfl⟩, hl.2⟩
    · refine ⟨?_, hl.2⟩
      show thR (fMth2 br W o acc _)
      unfold fMth2
      split
      · exact ⟨5314, by omega, by unfold isRu; omega, rfl⟩
      split
      · exact ⟨5515, by omega, by unfold isRu; omega, rfl⟩
      split
      · exact ⟨5818, by omega, by unfold isRu; omega, rfl⟩
      · trivial
theorem fIns_rl {a : LkS} {c : Nat} {x : Mth} {i : Ins} (hB : LB a) (h : LG a) (h51 : W.length ≤ 51) : thR (fIns br W a c x i).1 ∧ LG (fIns br W a c x i).2 := by
  unfold fIns
  split
  · refine ⟨?_, h⟩
    dsimp only
    split
    · exact ⟨5011, by omega, by unfold isRu; omega, rfl⟩
    · trivial
  split
  · have hl := lkd_rl (br := br) (k := iK i) hB h h51
    split
    · rename_i e s' el; rw [el] at hl; exact hl
    · rename_i d s' el
      rw [el] at hl
      split
      · exact ⟨⟨5719, by omega, by unfold isRu; omega, rfl⟩, hl.2⟩
      · exact ⟨trivial, hl.2⟩
  split
  · exact fFld_rl hB h h51
  split
  · exact fMth_rl hB h h51
  · exact ⟨trivial, h⟩
theorem LG21 : LG L21 := fun c => by
  show cdR (if c < 21 then 1 else 0)
  by_cases h : c < 21
  · rw [if_pos h]; exact Or.inr (Or.inl rfl)
  · rw [if_neg h]; exact Or.inl rfl
end
