/-! THE MACHINE: what links say of code and faces; where a frame goes -/
/-- linked classes were checked, and their faces are faces -/
def KIc (W : List Cls) (d : Nat) : Prop := (∀ m ∈ (gc W d).2.2.2.2.2, (chkM W d m).1 = 0) ∧ ∀ f ∈ (gc W d).2.2.1, ∀ e, fnd W f = some e → isFc W e = true
def KJ (W : List Cls) (L : Nat → Int32) : Prop := ∀ d, 21 ≤ d → L d = 1 → KIc W d
theorem chkC_none {W : List Cls} {c : Nat} : ∀ {k : Nat} {l : List Mth}, chkC W c k l = none → ∀ m ∈ l, (chkM W c m).1 = 0
  | _, [], _ => fun m hm => absurd hm List.not_mem_nil
  | k, x :: xs, h => by
    unfold chkC at h
    split at h
    · rename_i q
      intro m hm
      rcases List.mem_cons.mp hm with z | z
      · rw [z]; exact q
      · exact chkC_none h m z
    · cases h
theorem badF_fc {W : List Cls} : ∀ {l : List Nm}, badF W l = none → ∀ f ∈ l, ∀ e, fnd W f = some e → isFc W e = true
  | [], _ => fun f hf => absurd hf List.not_mem_nil
  | g :: l, h => by
    unfold badF at h
    split at h
    · cases h
    · rename_i d ed
      split at h
      · rename_i q
        intro f hf e he
        rcases List.mem_cons.mp hf with z | z
        · rw [z, ed] at he; cases he; exact q
        · exact badF_fc h f z e he
      · cases h
theorem lkFs_ki {W : List Cls} {K : LkS → Nat → Int32 × LkS} (hK : ∀ s d, KJ W s.1 → KJ W (K s d).2.1) : ∀ fs s, KJ W s.1 → KJ W (lkFs K W fs s).2.1
  | [], s, h => h
  | f :: fs, s, h => by
    unfold lkFs
    split
    · exact h
    · split
      · exact lkFs_ki hK fs _ (hK s _ h)
      · exact hK s _ h
theorem askF_ki {br : Int32} {W : List Cls} {K : LkS → Nat → Int32 × LkS} (hK : ∀ s d, KJ W s.1 → KJ W (K s d).2.1) (s : LkS) (c : Nat) (h : KJ W s.1) : KJ W (askF br W K s c).2.1 ∧ ((askF br W K s c).1 = 1 → KIc W c) := by
  unfold askF
  split
  · exact ⟨h, fun z => absurd z (show ¬ (2416 : Int32) = 1 by decide)⟩
  split
  · exact ⟨h, fun z => absurd z (show ¬ (2011 : Int32) = 1 by decide)⟩
  split
  · exact ⟨h, fun z => absurd z (show ¬ (2115 : Int32) = 1 by decide)⟩
  split
  · rename_i r e
    refine ⟨h, fun z => ?_⟩
    have : ∀ l, badF W l = some r → r = 2211 ∨ r = 2315 := by
      intro l
      induction l with
      | nil => intro q; cases q
      | cons f l ih =>
        intro q
        unfold badF at q
        split at q
        · cases q; exact Or.inl rfl
        · split at q
          · exact ih q
          · cases q; exact Or.inr rfl
    replace z : r = 1 := z
    rcases this _ e with q | q <;> rw [q] at z <;> exact absurd z (by decide)
  rename_i p _ _ _ hb
  split
  · have hf := lkFs_ki hK (gc W c).2.2.1 _ (hK s p h)
    have h5 := fun r => lkFs_some (W := W) (K := K) (r := r) (gc W c).2.2.1 (K s p).2
    split
    · rename_i e
      rw [e] at hf h5
      exact ⟨hf, fun z => absurd z (h5 _ rfl)⟩
    · rename_i s2 e
      rw [e] at hf
      rw [lkEnd_st]
      refine ⟨hf, fun z => ⟨?_, badF_fc hb⟩⟩
      unfold lkEnd at z
      split at z
      · exact absurd z (show ¬ (2515 : Int32) = 1 by decide)
      split at z
      · rename_i q
        exact chkC_none q
      · rename_i j r a q
        have := chkC_le q
        exfalso
        have z : 100 * Int32.ofNat r + 17 = 1 := z
        rw [lit32 100, oN_mul, lit32 17, oN_add] at z
        have := (oN_inj (a := 100 * r + 17) (b := 1) (by omega) (by omega)).mp z
        omega
  · rename_i z0
    exact ⟨hK s p h, fun z => absurd z z0⟩
theorem lkN_ki {br : Int32} {W : List Cls} : ∀ n s c, KJ W s.1 → KJ W (lkN br W n s c).2.1
  | 0, s, c, h => h
  | n + 1, s, c, h => by
    unfold lkN
    by_cases e : s.1 c = 0
    · rw [if_pos e]
      obtain ⟨a, b⟩ := askF_ki (br := br) (W := W) (lkN_ki n) s c h
      intro d h1 h2
      have h2 : LSm _ c _ d = 1 := h2
      unfold LSm at h2
      by_cases ed : d = c
      · rw [if_pos ed] at h2; rw [ed]; exact b h2
      · rw [if_neg ed] at h2; exact a d h1 h2
    · rw [if_neg e]; exact h
section
variable {W : List Cls} {L : Nat → Int32} {c d e : Nat}
/-- whoever is above a linked class is above it by parents, or a face, or Thing -/
theorem face_up (hI : LInv W L) (hk : KJ W L) (hB : BI W) : ∀ n c d, c < W.length → L c = 1 → isFc W c = true → Rc (edge false W) n c d → isFc W d = true ∨ d = 0
  | 0, c, d, _, _, hf, h => Or.inl ((show c = d from h) ▸ hf)
  | n + 1, c, d, hc, hl, hf, ⟨x, ⟨i, hi, hx⟩, h⟩ => by
    have h21 : 21 ≤ c := Classical.byContradiction (fun z => by rw [hB.nface (by omega)] at hf; cases hf)
    unfold dirW at hx
    by_cases i0 : i = 0
    · rw [if_pos i0, if_neg (by decide)] at hx
      unfold upW at hx
      rw [if_neg (by omega), if_pos hf] at hx
      cases hx
      have z : ∀ n d, Rc (edge false W) n 0 d → d = 0 := by
        intro n
        cases n with
        | zero => intro d h; exact (show 0 = d from h).symm
        | succ n =>
          intro d ⟨x, ⟨i, hi, hx⟩, _⟩
          exfalso
          rw [hI.1.2.2.1] at hi
          have : i = 0 := by simpa using hi
          unfold dirW at hx
          rw [if_pos this, if_neg (by decide)] at hx
          unfold upW at hx
          rw [if_pos rfl] at hx; cases hx
      exact Or.inr (z n d h)
    · rw [if_neg i0] at hx
      have hm : gf (gc W c) (i - 1) ∈ (gc W c).2.2.1 := getD_mem (by omega)
      have hfx := (hk c h21 hl).2 _ hm x hx
      obtain ⟨y, hy, -, ly, -⟩ := hI.face hc hl (show i - 1 < (gc W c).2.2.1.length by omega)
      have : y = x := by
        have e : fnd W (gf (gc W c) (i - 1)) = some y := hy
        rw [e] at hx; cases hx; rfl
      rw [this] at ly
      exact face_up hI hk hB n x d (fnd_lt hx) ly hfx h
theorem reach_up (hI : LInv W L) (hk : KJ W L) (hB : BI W) : ∀ n c d, c < W.length → L c = 1 → Rc (edge false W) n c d → PB W c d ∨ isFc W d = true ∨ d = 0
  | 0, c, d, _, _, h => Or.inl ⟨0, h⟩
  | n + 1, c, d, hc, hl, ⟨x, ⟨i, hi, hx⟩, h⟩ => by
    unfold dirW at hx
    by_cases i0 : i = 0
    · rw [if_pos i0, if_neg (by decide)] at hx
      have c0 : c ≠ 0 := fun z => by unfold upW at hx; rw [if_pos z] at hx; cases hx
      obtain ⟨y, hy, yl, ly, -⟩ := hI.upm hc hl c0
      rw [hy] at hx; cases hx
      exact (reach_up hI hk hB n x d yl ly h).imp (fun z => PB.cons hy z) id
    · rw [if_neg i0] at hx
      have hm : gf (gc W c) (i - 1) ∈ (gc W c).2.2.1 := getD_mem (by omega)
      have h21 : 21 ≤ c := Classical.byContradiction (fun z => by
        have : (gc W c).2.2.1 = [] := by rw [hB.2 c (by omega)]; exact (show ∀ c, c < 21 → (gc W21 c).2.2.1 = [] by decide) c (by omega)
        rw [this] at hm; exact absurd hm List.not_mem_nil)
      have hfx := (hk c h21 hl).2 _ hm x hx
      obtain ⟨y, hy, -, ly, -⟩ := hI.face hc hl (show i - 1 < (gc W c).2.2.1.length by omega)
      have : y = x := by
        have e : fnd W (gf (gc W c) (i - 1)) = some y := hy
        rw [e] at hx; cases hx; rfl
      rw [this] at ly
      exact Or.inr (face_up hI hk hB n x d (fnd_lt hx) ly hfx h)
end
/-! where a frame goes -/
section
variable {W : List Cls} {s s' : Ms} {c a t : Nat} {x : Mth} {C : List Ins}
/-- locals and stack are as at an instruction -/
def at_ (W : List Cls) (s : Ms) (c : Nat) (x : Mth) (a : Nat) (lo st : List Vl) : Prop := cvL W s c (co x) (kAt W c x a).1 lo ∧ (kAt W c x a).2.length = st.length ∧ cvL W s c (co x) (kAt W c x a).2 st
theorem at_next (hB : BI W) (hb : (begL W c x).length ≤ lr x) (hck : (chkM W c x).1 = 0) (ha : a < (co x).length) (hg : goesOn (gin (co x) a).1) {lo st : List Vl} (hlo : cvL W s c (co x) (loS W c (gin (co x) a) (kAt W c x a).1 (kAt W c x a).2) lo) (hl : (stS W c x (gin (co x) a) a (kAt W c x a).1 (kAt W c x a).2).length = st.length) (hst : cvL W s c (co x) (stS W c x (gin (co x) a) a (kAt W c x a).1 (kAt W c x a).2) st) : a + 1 < (co x).length ∧ at_ W s c x (a + 1) lo st := by
  obtain ⟨s1, e1, e2, -, -⟩ := chk_at hck ha
  obtain ⟨-, -, -, -, -, g1, g2⟩ := stepS_in e1
  have h1 : a + 1 < (co x).length := by rcases g1 hg with z | z <;> omega
  refine ⟨h1, ?_⟩
  have es := e2.trans (g2 hg)
  obtain ⟨s2, f1, f2, f3, f4⟩ := chk_at hck h1
  have hlen := sq_len hb hck (a + 1) (by omega) (by rw [es])
  unfold at_ kAt
  cases ef : frOf x (a + 1) with
  | none =>
    show cvL W s c (co x) (sqS W c x (a + 1)).1 lo ∧ (sqS W c x (a + 1)).2.1.length = st.length ∧ cvL W s c (co x) (sqS W c x (a + 1)).2.1 st
    rw [es]
    exact ⟨hlo, hl, hst⟩
  | some f =>
    show cvL W s c (co x) (padL x f.1) lo ∧ f.2.length = st.length ∧ cvL W s c (co x) f.2 st
    obtain ⟨hw, hf⟩ := f4 f ef
    have hf := hf (by rw [es])
    rw [es] at hf hlen
    unfold fitS at hf
    by_cases c1 : fitL W (loS W c (gin (co x) a) (kAt W c x a).1 (kAt W c x a).2) f.1 ≠ 0
    · rw [if_pos c1] at hf; exact absurd hf c1
    rw [if_neg c1] at hf
    by_cases c2 : (stS W c x (gin (co x) a) a (kAt W c x a).1 (kAt W c x a).2).length ≠ f.2.length
    · rw [if_pos c2] at hf; exact absurd hf (by decide)
    rw [if_neg c2] at hf
    have c1 := Classical.not_not.mp c1
    have c2 := Classical.not_not.mp c2
    exact ⟨hlo.fl hB hlen c1 (wrongF_in hw).1, by omega, hst.ft hB c2 hf⟩
theorem at_goes (hB : BI W) {lo0 st0 : List Kd} {lo st : List Vl} (hg : goesS W x lo0 st0 t = 0) (hl : lo0.length = lr x) (hlo : cvL W s c (co x) lo0 lo) (hs' : st0.length = st.length) (hst : cvL W s c (co x) st0 st) : at_ W s c x t lo st := by
  unfold goesS at hg
  unfold at_ kAt
  cases ef : frOf x t with
  | none => rw [ef] at hg; exact absurd hg (show ¬ (36 : Nat) = 0 by decide)
  | some f =>
    rw [ef] at hg
    dsimp only at hg
    by_cases c0 : wrongF x f.1 f.2 = true
    · rw [if_pos c0] at hg; exact absurd hg (by decide)
    rw [if_neg c0] at hg
    unfold fitS at hg
    show cvL W s c (co x) (padL x f.1) lo ∧ f.2.length = st.length ∧ cvL W s c (co x) f.2 st
    by_cases c1 : fitL W lo0 f.1 ≠ 0
    · rw [if_pos c1] at hg; exact absurd hg c1
    rw [if_neg c1] at hg
    by_cases c2 : st0.length ≠ f.2.length
    · rw [if_pos c2] at hg; exact absurd hg (by decide)
    rw [if_neg c2] at hg
    have c1 := Classical.not_not.mp c1
    have c2 := Classical.not_not.mp c2
    exact ⟨hlo.fl hB hl c1 (wrongF_in (by simpa using c0)).1, by omega, hst.ft hB c2 hg⟩
/-- a handler takes it -/
theorem at_hand (hB : BI W) {lo0 : List Kd} {lo : List Vl} {h : Hnd} {r : Int32} (hg : handOne W x lo0 h = 0) (hl : lo0.length = lr x) (hlo : cvL W s c (co x) lo0 lo) (hr : cv W s c (co x) (2, if h.2.2.2 = nAny then nFault else h.2.2.2) (r, true)) : at_ W s c x h.2.2.1 lo [(r, true)] := by
  unfold handOne at hg
  unfold at_ kAt
  cases ef : frOf x h.2.2.1 with
  | none => rw [ef] at hg; exact absurd hg (show ¬ (36 : Nat) = 0 by decide)
  | some f =>
    rw [ef] at hg
    dsimp only at hg
    by_cases c0 : wrongF x f.1 f.2 = true
    · rw [if_pos c0] at hg; exact absurd hg (by decide)
    rw [if_neg c0] at hg
    show cvL W s c (co x) (padL x f.1) lo ∧ f.2.length = [(r, true)].length ∧ cvL W s c (co x) f.2 [(r, true)]
    by_cases c2 : f.2.length ≠ 1
    · rw [if_pos c2] at hg; exact absurd hg (by decide)
    rw [if_neg c2] at hg
    by_cases c1 : fitL W lo0 f.1 ≠ 0
    · rw [if_pos c1] at hg; exact absurd hg c1
    rw [if_neg c1] at hg
    have c1 := Classical.not_not.mp c1
    have c2 := Classical.not_not.mp c2
    refine ⟨hlo.fl hB hl c1 (wrongF_in (by simpa using c0)).1, c2, fun i hi => ?_⟩
    have : i = 0 := by omega
    subst this
    exact hr.fit hB hg
theorem handS_in {lo0 : List Kd} : ∀ {H : List Hnd}, handS W x lo0 a H = 0 → ∀ h ∈ H, ¬ (a < h.1 ∨ h.2.1 ≤ a) → handOne W x lo0 h = 0
  | [], _ => fun h hh => absurd hh List.not_mem_nil
  | g :: H, hz => by
    intro h hh hc
    unfold handS at hz
    by_cases c1 : a < g.1 ∨ g.2.1 ≤ a
    · rw [if_pos c1] at hz
      rcases List.mem_cons.mp hh with z | z
      · rw [z] at hc; exact absurd c1 hc
      · exact handS_in hz h z hc
    · rw [if_neg c1] at hz
      by_cases c2 : handOne W x lo0 g = 0
      · rw [if_pos c2] at hz
        rcases List.mem_cons.mp hh with z | z
        · rw [z]; exact c2
        · exact handS_in hz h z hc
      · rw [if_neg c2] at hz; exact absurd hz c2
end
