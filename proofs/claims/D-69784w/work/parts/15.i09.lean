/-! SPEC: what is reached from fixed fields and frames, order-free -/
abbrev inO (x : Int32) : Prop := 1 ≤ x.toNatClampNeg ∧ x.toNatClampNeg ≤ 800
abbrev MP : Type := (Nat → Bool) × List Nat
def mkM (p : MP) (x : Int32) : MP := if inO x ∧ p.1 x.toNatClampNeg = false then (up1 p.1 x.toNatClampNeg true, p.2 ++ [x.toNatClampNeg]) else p
def mkL (p : MP) (xs : List Int32) : MP := xs.foldl mkM p
theorem mkL_app {p : MP} {xs ys : List Int32} : mkL p (xs ++ ys) = mkL (mkL p xs) ys := List.foldl_append
theorem mkL_nil {p : MP} : mkL p [] = p := rfl
theorem mkL_one {p : MP} {x : Int32} : mkL p [x] = mkM p x := rfl
theorem mkL_cons {p : MP} {x : Int32} {xs : List Int32} : mkL p (x :: xs) = mkL (mkM p x) xs := rfl
def okP (p : MP) : Prop := p.2.Nodup ∧ ∀ n ∈ p.2, (1 ≤ n ∧ n ≤ 800) ∧ p.1 n = true
theorem okP.mk {p : MP} {x : Int32} (h : okP p) : okP (mkM p x) := by
  unfold mkM
  split
  · rename_i c
    refine ⟨List.nodup_append.2 ⟨h.1, (by simp), fun a ha b hb => ?_⟩, fun n hn => ?_⟩
    · intro e
      rw [List.mem_singleton.1 hb] at e
      rw [e] at ha
      rw [(h.2 _ ha).2] at c
      exact absurd c.2 (by decide)
    · show (1 ≤ n ∧ n ≤ 800) ∧ up1 p.1 x.toNatClampNeg true n = true
      by_cases e : n = x.toNatClampNeg
      · rw [e, up1_s]; exact ⟨c.1, rfl⟩
      · rw [up1_o e]
        rcases List.mem_append.1 hn with z | z
        · exact h.2 n z
        · exact absurd (List.mem_singleton.1 z) e
  · exact h
theorem okP.mkl {xs : List Int32} : ∀ {p : MP}, okP p → okP (mkL p xs) := by
  induction xs with
  | nil => intro p h; exact h
  | cons x xs ih => intro p h; exact ih h.mk
theorem okP.len {p : MP} (h : okP p) : p.2.length ≤ 800 := by
  have h1 : (p.2.map (fun n => n - 1)).Nodup := by
    have h2 : p.2.Pairwise (fun a b => a - 1 ≠ b - 1) := (List.Pairwise.and_mem.1 h.1).imp (fun {a b} z => by have := (h.2 a z.1).1; have := (h.2 b z.2.1).1; have := z.2.2; omega)
    exact List.Pairwise.map _ (fun a b z => z) h2
  have h3 := nodup_len (n := 800) h1 (fun x hx => by
    obtain ⟨y, hy, e⟩ := List.mem_map.1 hx
    have := (h.2 y hy).1
    omega)
  rw [List.length_map] at h3
  exact h3
theorem okP.len1 {p : MP} {x : Int32} (h : okP p) (hx : inO x) (hn : p.1 x.toNatClampNeg = false) : p.2.length < 800 := by
  have h1 := (h.mk (x := x)).len
  unfold mkM at h1
  rw [if_pos ⟨hx, hn⟩] at h1
  have h1 : (p.2 ++ [x.toNatClampNeg]).length ≤ 800 := h1
  rw [List.length_append] at h1
  have h1 : p.2.length + 1 ≤ 800 := h1
  omega
theorem mkM_in {p : MP} {x : Int32} : (∀ n, p.1 n = true → (mkM p x).1 n = true) ∧ (inO x → (mkM p x).1 x.toNatClampNeg = true) ∧ (∃ l, (mkM p x).2 = p.2 ++ l) ∧ ∀ n, (mkM p x).1 n = true → p.1 n = true ∨ (n ∈ (mkM p x).2 ∧ inO x ∧ x.toNatClampNeg = n) := by
  unfold mkM
  split
  · rename_i c
    refine ⟨fun n hn => ?_, fun _ => up1_s, ⟨_, rfl⟩, fun n hn => ?_⟩
    · show up1 p.1 x.toNatClampNeg true n = true
      by_cases e : n = x.toNatClampNeg
      · rw [e, up1_s]
      · rw [up1_o e]; exact hn
    · have hn : up1 p.1 x.toNatClampNeg true n = true := hn
      by_cases e : n = x.toNatClampNeg
      · exact Or.inr ⟨List.mem_append.2 (Or.inr (by rw [e]; exact List.mem_singleton.2 rfl)), c.1, e.symm⟩
      · rw [up1_o e] at hn; exact Or.inl hn
  · rename_i c
    refine ⟨fun n hn => hn, fun hx => ?_, ⟨[], (List.append_nil _).symm⟩, fun n hn => Or.inl hn⟩
    cases e : p.1 x.toNatClampNeg with
    | true => rfl
    | false => exact absurd ⟨hx, e⟩ c
theorem mkL_in {xs : List Int32} : ∀ {p : MP}, (∀ n, p.1 n = true → (mkL p xs).1 n = true) ∧ (∀ x ∈ xs, inO x → (mkL p xs).1 x.toNatClampNeg = true) ∧ (∃ l, (mkL p xs).2 = p.2 ++ l) ∧ ∀ n, (mkL p xs).1 n = true → p.1 n = true ∨ (n ∈ (mkL p xs).2 ∧ ∃ x ∈ xs, inO x ∧ x.toNatClampNeg = n) := by
  induction xs with
  | nil => intro p; exact ⟨fun _ h => h, fun x hx => (by cases hx), ⟨[], (List.append_nil _).symm⟩, fun n h => Or.inl h⟩
  | cons x xs ih =>
    intro p
    obtain ⟨a1, a2, ⟨l1, a3⟩, a4⟩ := mkM_in (p := p) (x := x)
    obtain ⟨b1, b2, ⟨l2, b3⟩, b4⟩ := ih (p := mkM p x)
    rw [mkL_cons]
    refine ⟨fun n hn => b1 n (a1 n hn), fun y hy hi => ?_, ⟨l1 ++ l2, by rw [b3, a3, List.append_assoc]⟩, fun n hn => ?_⟩
    · rcases List.mem_cons.1 hy with z | z
      · subst z; exact b1 _ (a2 hi)
      · exact b2 y z hi
    · rcases b4 n hn with z | ⟨z, y, hy, hi, e⟩
      · rcases a4 n z with u | ⟨u, hi, e⟩
        · exact Or.inl u
        · exact Or.inr ⟨by rw [b3]; exact List.mem_append.2 (Or.inl u), x, List.mem_cons_self, hi, e⟩
      · exact Or.inr ⟨z, y, List.mem_cons_of_mem _ hy, hi, e⟩
/-- how many are not marked -/
def unm (P : Nat → Bool) : Nat → Nat
  | 0 => 0
  | n + 1 => unm P n + (if P (n + 1) = true then 0 else 1)
theorem unm_up {P : Nat → Bool} {r : Nat} (hr : P r = false) (h1 : 1 ≤ r) : ∀ n, unm (up1 P r true) n + (if r ≤ n then 1 else 0) = unm P n
  | 0 => by rw [if_neg (by omega)]; rfl
  | n + 1 => by
    have ih := unm_up hr h1 n
    unfold unm
    by_cases e : n + 1 = r
    · rw [e, up1_s, if_pos rfl, hr, if_neg (show ¬ (false = true) by decide), if_pos (Nat.le_refl _)]
      rw [if_neg (by omega)] at ih
      omega
    · rw [up1_o e]
      by_cases c : r ≤ n
      · rw [if_pos (show r ≤ n + 1 by omega)]; rw [if_pos c] at ih; omega
      · rw [if_neg (show ¬ r ≤ n + 1 by omega)]; rw [if_neg c] at ih; omega
theorem unm_le {P : Nat → Bool} : ∀ n, unm P n ≤ n
  | 0 => Nat.le_refl _
  | n + 1 => by
    have := unm_le (P := P) n
    unfold unm
    split <;> omega
theorem mkM_mu {p : MP} {x : Int32} : (mkM p x).2.length + unm (mkM p x).1 800 = p.2.length + unm p.1 800 := by
  unfold mkM
  split
  · rename_i c
    have h := unm_up c.2 c.1.1 800
    rw [if_pos c.1.2] at h
    show (p.2 ++ [x.toNatClampNeg]).length + unm (up1 p.1 x.toNatClampNeg true) 800 = _
    rw [List.length_append]
    show p.2.length + 1 + _ = _
    omega
  · rfl
theorem mkL_mu {xs : List Int32} : ∀ {p : MP}, (mkL p xs).2.length + unm (mkL p xs).1 800 = p.2.length + unm p.1 800 := by
  induction xs with
  | nil => intro p; rfl
  | cons x xs ih => intro p; rw [mkL_cons, ih, mkM_mu]
/-- reached from X by E -/
def Rg (X : List Int32) (E : Nat → List Int32) (n : Nat) : Prop := ∀ P : Nat → Prop, (∀ x ∈ X, inO x → P x.toNatClampNeg) → (∀ a, P a → ∀ x ∈ E a, inO x → P x.toNatClampNeg) → P n
theorem Rg.rt {X : List Int32} {E : Nat → List Int32} {x : Int32} (hx : x ∈ X) (hi : inO x) : Rg X E x.toNatClampNeg := fun _ h1 _ => h1 x hx hi
theorem Rg.st {X : List Int32} {E : Nat → List Int32} {x : Int32} {a : Nat} (h : Rg X E a) (hx : x ∈ E a) (hi : inO x) : Rg X E x.toNatClampNeg := fun P h1 h2 => h2 a (h P h1 h2) x hx hi
def DM (X : List Int32) (E : Nat → List Int32) (P : Nat → Bool) (pd : List Nat) : Prop := (∀ n, P n = true → Rg X E n) ∧ (∀ x ∈ X, inO x → P x.toNatClampNeg = true) ∧ ∀ n, P n = true → n ∉ pd → ∀ x ∈ E n, inO x → P x.toNatClampNeg = true
abbrev mp0 : MP := (fun _ => false, [])
section
variable {X : List Int32} {E : Nat → List Int32} {p q : MP} {P : Nat → Bool} {pd pd' : List Nat} {r : Nat}
theorem okP.z : okP mp0 := ⟨List.nodup_nil, fun n hn => by cases hn⟩
theorem DM.root : DM X E (mkL mp0 X).1 (mkL mp0 X).2 := by
  obtain ⟨-, b, -, d⟩ := mkL_in (xs := X) (p := mp0)
  refine ⟨fun n hn => ?_, b, fun n hn hp => ?_⟩
  · rcases d n hn with z | ⟨-, x, hx, hi, e⟩
    · cases z
    · rw [← e]; exact Rg.rt hx hi
  · rcases d n hn with z | ⟨z, -⟩
    · cases z
    · exact absurd z hp
theorem DM.step (h : DM X E p.1 pd) (hr : p.1 r = true) (hq : q = mkL p (E r)) (h1 : ∀ n, n ∈ pd → n = r ∨ n ∈ pd') (h2 : ∀ n, n ∈ q.2 → p.1 n = false → n ∈ pd') : DM X E q.1 pd' := by
  subst hq
  obtain ⟨a, b, -, d⟩ := mkL_in (xs := E r) (p := p)
  refine ⟨fun n hn => ?_, fun x hx hi => a _ (h.2.1 x hx hi), fun n hn hp x hx hi => ?_⟩
  · rcases d n hn with z | ⟨-, x, hx, hi, e⟩
    · exact h.1 n z
    · rw [← e]; exact (h.1 r hr).st hx hi
  · cases e : p.1 n with
    | true =>
      by_cases er : n = r
      · rw [er] at hx; exact b x hx hi
      · refine a _ (h.2.2 n e (fun z => ?_) x hx hi)
        rcases h1 n z with u | u
        · exact er u
        · exact hp u
    | false =>
      rcases d n hn with z | ⟨z, -⟩
      · rw [e] at z; cases z
      · exact absurd (h2 n z e) hp
theorem DM.fin (h : DM X E P []) (n : Nat) : P n = true ↔ Rg X E n :=
  ⟨h.1 n, fun hr => hr (fun n => P n = true) h.2.1 (fun a ha x hx hi => h.2.2 a ha (by simp) x hx hi)⟩
end
/-- those k below n that P takes, by g -/
def selL (P : Nat → Bool) (g : Nat → Int32) : Nat → List Int32
  | 0 => []
  | n + 1 => selL P g n ++ (if P n = true then [g n] else [])
theorem selL_s {P : Nat → Bool} {g : Nat → Int32} {n : Nat} : selL P g (n + 1) = selL P g n ++ (if P n = true then [g n] else []) := rfl
theorem mem_selL {P : Nat → Bool} {g : Nat → Int32} {x : Int32} : ∀ {n : Nat}, x ∈ selL P g n ↔ ∃ k, k < n ∧ P k = true ∧ g k = x
  | 0 => ⟨fun h => (by cases h), fun ⟨k, h, _⟩ => absurd h (by omega)⟩
  | n + 1 => by
    rw [selL_s, List.mem_append, mem_selL (n := n)]
    constructor
    · rintro (⟨k, h1, h2, h3⟩ | h)
      · exact ⟨k, by omega, h2, h3⟩
      · by_cases c : P n = true
        · rw [if_pos c] at h; exact ⟨n, by omega, c, (List.mem_singleton.1 h).symm⟩
        · rw [if_neg c] at h; cases h
    · rintro ⟨k, h1, h2, h3⟩
      by_cases c : k = n
      · subst c; right; rw [if_pos h2]; exact List.mem_singleton.2 h3.symm
      · exact Or.inl ⟨k, by omega, h2, h3⟩
def fxV (W : List Cls) (s : Ms) (c : Nat) (n : Nat) : List Int32 := selL (fun f => decide (¬ (gfl (gc W c) f).2.2.1 &&& 1 = 0 ∧ (gfl (gc W c) f).2.1.1 ≠ 0)) (fun f => zS s c f) n
def fxA (W : List Cls) (s : Ms) : Nat → List Int32
  | 0 => []
  | n + 1 => fxA W s n ++ fxV W s (21 + n) (gc W (21 + n)).2.2.2.2.1.length
def frK (lo st : List Vl) (k : Nat) : Vl := if k < 20 then lv lo k else lv st (k - 20)
def frV (lo st : List Vl) (n : Nat) : List Int32 := selL (fun k => (frK lo st k).2) (fun k => (frK lo st k).1) n
def unV : List Un → List Int32
  | [] => []
  | .inl (_, _, _, lo, st) :: U => unV U ++ frV lo st (20 + st.length)
  | .inr _ :: U => unV U
def rtA (W : List Cls) (s : Ms) : List Int32 := ((fxA W s (W.length - 21) ++ unV (gU s 0)) ++ unV (gU s 1)) ++ unV (gU s 2)
def edV (s : Ms) (r n : Nat) : List Int32 := selL (fun k => decide ((gKd s ((gOb s r).2.1 + k)).1 ≠ 0)) (fun k => gCell s ((gOb s r).2.1 + k)) n
def edA (s : Ms) (r : Nat) : List Int32 := edV s r (gOb s r).2.2.1
noncomputable def mrk (W : List Cls) (s : Ms) (n : Nat) : Bool := @decide (Rg (rtA W s) (edA s) n) (Classical.propDecidable _)
theorem mrk_iff {W : List Cls} {s : Ms} {n : Nat} : mrk W s n = true ↔ Rg (rtA W s) (edA s) n := by
  unfold mrk
  exact @decide_eq_true_iff _ (Classical.propDecidable _)
theorem fxA_in {W : List Cls} {s : Ms} {c f : Nat} {x : Int32} (hf : f < (gc W c).2.2.2.2.1.length) (h1 : ¬ (gfl (gc W c) f).2.2.1 &&& 1 = 0) (h2 : (gfl (gc W c) f).2.1.1 ≠ 0) (hx : zS s c f = x) (hc : 21 ≤ c) : ∀ n, c < 21 + n → x ∈ fxA W s n
  | 0, h => absurd h (by omega)
  | n + 1, h => by
    unfold fxA
    rw [List.mem_append]
    by_cases e : c = 21 + n
    · right
      rw [← e]
      exact mem_selL.2 ⟨f, hf, decide_eq_true ⟨h1, h2⟩, hx⟩
    · exact Or.inl (fxA_in hf h1 h2 hx hc n (by omega))
theorem fxA_of {W : List Cls} {s : Ms} {x : Int32} : ∀ n, x ∈ fxA W s n → ∃ c f, 21 ≤ c ∧ c < 21 + n ∧ f < (gc W c).2.2.2.2.1.length ∧ ¬ (gfl (gc W c) f).2.2.1 &&& 1 = 0 ∧ (gfl (gc W c) f).2.1.1 ≠ 0 ∧ zS s c f = x
  | 0, h => by cases h
  | n + 1, h => by
    unfold fxA at h
    rcases List.mem_append.1 h with z | z
    · obtain ⟨c, f, h1, h2, h3⟩ := fxA_of n z
      exact ⟨c, f, h1, by omega, h3⟩
    · obtain ⟨f, h1, h2, h3⟩ := mem_selL.1 z
      have h2 := of_decide_eq_true h2
      exact ⟨21 + n, f, by omega, by omega, h1, h2.1, h2.2, h3⟩
theorem lv_mem {vs : List Vl} {k : Nat} (h : (lv vs k).2 = true) : lv vs k ∈ vs ∧ k < vs.length := by
  unfold lv at h ⊢
  by_cases c : k < vs.length
  · rw [List.getD_eq_getElem?_getD, List.getElem?_eq_getElem c]
    exact ⟨List.getElem_mem c, c⟩
  · rw [List.getD_eq_getElem?_getD, List.getElem?_eq_none (by omega)] at h
    cases h
theorem mem_lv {vs : List Vl} {v : Vl} (h : v ∈ vs) : ∃ k, k < vs.length ∧ lv vs k = v := by
  obtain ⟨k, hk, e⟩ := List.mem_iff_getElem.1 h
  refine ⟨k, hk, ?_⟩
  unfold lv
  rw [List.getD_eq_getElem?_getD, List.getElem?_eq_getElem hk]
  exact e
theorem unV_in {c j a : Nat} {lo st : List Vl} {v : Vl} (hl : lo.length = 20) (hv : v ∈ lo ∨ v ∈ st) (h2 : v.2 = true) : ∀ {U : List Un}, Sum.inl (c, j, a, lo, st) ∈ U → v.1 ∈ unV U
  | [], h => by cases h
  | .inr _ :: U, h => unV_in (c := c) (j := j) (a := a) hl hv h2 (U := U) ((List.mem_cons.1 h).resolve_left (fun z => by cases z))
  | .inl (c', j', a', lo', st') :: U, h => by
    unfold unV
    rw [List.mem_append]
    rcases List.mem_cons.1 h with z | z
    · right
      cases z
      refine mem_selL.2 ?_
      rcases hv with u | u
      · obtain ⟨k, hk, e⟩ := mem_lv u
        have e1 : frK lo st k = v := by unfold frK; rw [if_pos (by omega)]; exact e
        exact ⟨k, by omega, by rw [e1]; exact h2, by rw [e1]⟩
      · obtain ⟨k, hk, e⟩ := mem_lv u
        have e1 : frK lo st (20 + k) = v := by unfold frK; rw [if_neg (by omega), show 20 + k - 20 = k by omega]; exact e
        exact ⟨20 + k, by omega, by rw [e1]; exact h2, by rw [e1]⟩
    · exact Or.inl (unV_in hl hv h2 z)
theorem unV_of {x : Int32} : ∀ {U : List Un}, x ∈ unV U → ∃ c j a lo st v, Sum.inl (c, j, a, lo, st) ∈ U ∧ (v ∈ lo ∨ v ∈ st) ∧ v.2 = true ∧ v.1 = x
  | [], h => by cases h
  | .inr _ :: U, h => by
    obtain ⟨c, j, a, lo, st, v, h1, h2⟩ := unV_of (U := U) h
    exact ⟨c, j, a, lo, st, v, List.mem_cons_of_mem _ h1, h2⟩
  | .inl (c', j', a', lo', st') :: U, h => by
    unfold unV at h
    rcases List.mem_append.1 h with z | z
    · obtain ⟨c, j, a, lo, st, v, h1, h2⟩ := unV_of (U := U) z
      exact ⟨c, j, a, lo, st, v, List.mem_cons_of_mem _ h1, h2⟩
    · obtain ⟨k, h1, h2, h3⟩ := mem_selL.1 z
      unfold frK at h2 h3
      by_cases c1 : k < 20
      · rw [if_pos c1] at h2 h3
        exact ⟨c', j', a', lo', st', _, List.mem_cons_self, Or.inl (lv_mem h2).1, h2, h3⟩
      · rw [if_neg c1] at h2 h3
        exact ⟨c', j', a', lo', st', _, List.mem_cons_self, Or.inr (lv_mem h2).1, h2, h3⟩
