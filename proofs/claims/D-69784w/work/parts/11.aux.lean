/-- locals that are known no more -/
def mask : List Bool → List (Option AV) → List (Option AV)
  | b :: bs, v :: vs => (if b = true then v else none) :: mask bs vs
  | _, _ => []
theorem mask_get : ∀ (bs : List Bool) (vs : List (Option AV)) (i : Nat) (a : AV), (mask bs vs)[i]? = some (some a) → vs[i]? = some (some a)
  | [], vs, i, a, h => by simp [mask] at h
  | b :: bs, [], i, a, h => by simp [mask] at h
  | b :: bs, v :: vs, i, a, h => by
    cases i with
    | zero =>
      simp only [mask, List.getElem?_cons_zero, Option.some.injEq] at h ⊢
      split at h
      · exact h
      · cases h
    | succ i => exact mask_get bs vs i a (by simpa [mask] using h)
theorem E_mask {γ : Gm} {κ : Kp} {d pc : Nat} {lv lv' : List (Option AV)} {st : List AV} {M : Mem} {Q : Out → Mem → Prop} (bs : List Bool) (hm : mask bs lv = lv') (h : E γ κ d pc lv' st M Q) : E γ κ d pc lv st M Q := by
  subst hm
  obtain ⟨o, M', h1, h2⟩ := h
  refine ⟨o, M', h1, h2.1, fun p e R s m args below meth c H locs cells slots ls a1 a2 a3 a4 a5 a6 a7 a8 a9 a10 => h2.2 p e R s m args below meth c H locs cells slots ls a1 a2 (lv_more a3 (fun q hq => ?_)) ⟨a4.1, fun v hv => ?_⟩ a5 a6 a7 a8 a9 a10⟩
  · obtain ⟨i, x⟩ := q
    obtain ⟨a, e1, e2⟩ := mem_lvl.mp hq
    exact mem_lvl.mpr ⟨a, mask_get bs lv i a e1, e2⟩
  · obtain ⟨i, hi⟩ := List.getElem?_of_mem hv
    exact a4.2 v (List.mem_of_getElem? (mask_get bs lv i v hi))
theorem ck_ok {own : String} {l : List (Nat × Int32)} (ps : List (Nat × Nat)) (h : ps.map (fun q => tbk q.1 q.2) = l.map (fun x => some (Cond.constant own x.1 x.2))) : ∀ x ∈ l, Cond.constant own x.1 x.2 ∈ tables_1 := by
  intro x hx
  have h1 : some (Cond.constant own x.1 x.2) ∈ l.map (fun x => some (Cond.constant own x.1 x.2)) := List.mem_map.mpr ⟨x, hx, rfl⟩
  rw [← h] at h1
  obtain ⟨q, -, e⟩ := List.mem_map.mp h1
  exact tbk_mem e
theorem cl_ok {own : String} {l : List (Nat × Int64)} (ps : List (Nat × Nat)) (h : ps.map (fun q => tbk q.1 q.2) = l.map (fun x => some (Cond.constantLong own x.1 x.2))) : ∀ x ∈ l, Cond.constantLong own x.1 x.2 ∈ tables_1 := by
  intro x hx
  have h1 : some (Cond.constantLong own x.1 x.2) ∈ l.map (fun x => some (Cond.constantLong own x.1 x.2)) := List.mem_map.mpr ⟨x, hx, rfl⟩
  rw [← h] at h1
  obtain ⟨q, -, e⟩ := List.mem_map.mp h1
  exact tbk_mem e
