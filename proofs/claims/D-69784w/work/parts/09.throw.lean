section Throws
variable {γ : Gm} {κ κ' : Kp} {d pc : Nat} {lv : List (Option AV)} {st stk : List AV} {M M1 M' : Mem} {out o : Out}
/-- no handler of the method covers the place -/
def nohl (κ : Kp) (pc : Nat) : Bool := (kh κ).all (fun h => !(decide (h.1 ≤ pc) && decide (pc < h.2.1)))
theorem nohl_out {c : Code} (h : nohl κ pc = true) (he : c.exceptionTable.toList.map (fun h => (h.startPc, h.endPc, h.handlerPc, h.catchType)) = kh κ) : ∀ x ∈ c.exceptionTable.toList, covers x pc = false := by
  intro x hx
  unfold nohl at h
  rw [← he] at h
  have := List.all_eq_true.mp h (x.startPc, x.endPc, x.handlerPc, x.catchType) (List.mem_map.mpr ⟨x, hx, rfl⟩)
  have t : pc < x.startPc ∨ x.endPc ≤ pc := by simpa using this
  simp only [covers, Bool.and_eq_false_iff, decide_eq_false_iff_not]
  omega
theorem J_throw {q : Nat × Nat} (hq : q.1 ≠ 0) (hh : nohl κ pc = true) (hdg : decode (kc κ) pc = .ok (.athrow, 1)) : J γ κ d pc lv (vr (some q) :: st) M (.inr q) M := by
  refine ⟨Le.rf M, fun p e R s m args below meth c H locs cells slots ls a1 a2 a3 a4 a5 a6 a7 a8 a9 a10 => ?_⟩
  intro T hT X
  subst hT
  obtain ⟨b1, b2, b3, b4, b5, b6, b7, b8, b9, b10⟩ := id a1
  obtain ⟨s1, s2, s3, s4, s5⟩ := X.athrowLeaves b1 (g := F0 m pc ls ((vr (some q) :: st).map (rv γ))) rfl rfl rfl (nohl_out hh b9) (a := ra γ q) (rest := st.map (rv γ)) rfl (by rw [b2]; exact hdg) b6
  refine ⟨_, s1, s2, s3, s4, ⟨locs, ?_, a2.2.2.2.1⟩, a2.1, a2.2.2.2.2.1, a2.2.2.2.2.2, ?_⟩
  · rw [Nat.sub_self, Nat.sub_self, Nat.add_zero, Nat.add_zero]; exact s5
  · rcases a4.1 (vr (some q)) List.mem_cons_self with x | x
    · exact absurd x hq
    · exact x
/-- what is thrown by a callee goes out of the caller too -/
theorem J_callT {Bs : List AV} {q : Nat × Nat} {ig : Instr} (front : Front γ κ κ' pc lv stk st Bs M) (hdg : decode (kc κ) pc = .ok (ig, 3)) (hco : codeIn κ') (hpl : plainFor (ky κ') = true) (hB : ∀ v ∈ Bs, v ∈ stk) (hlen : (entL Bs).length ≤ kl κ') (hkl : kl κ' ≤ 40) (hst : st.length ≤ 15)
    (hh : nohl κ pc = true) (hJ : J γ κ' d 0 (ent (kl κ') Bs) [] M (.inr q) M1) : J γ κ (d + 1) pc lv stk M (.inr q) M1 := by
  refine ⟨hJ.1, fun p e R s m args below meth c H locs cells slots ls a1 a2 a3 a4 a5 a6 a7 a8 a9 a10 => ?_⟩
  intro T hT X
  subst hT
  obtain ⟨vm₁, mk, X₁, hnamed, hstep⟩ := front p e R s m args below meth c locs cells slots ls T a1 a2 a3 a4 X
  obtain ⟨b1, b2, b3, b4, b5, b6, b7, b8, b9, b10⟩ := id a1
  obtain ⟨T', L, X', hW', hok, -, hthr⟩ := call_core (T := T.setVm vm₁) (g := F0 m pc ls (st.map (rv γ))) X₁ b1 b5 b10 a2 rfl (by rw [b3]; exact a3.1) (by rw [b2]; exact hdg) (code_at b5 hco) hpl hnamed hJ (fun v hv => a4.1 v (hB v hv)) hlen a5 a6 a7 (by
    have := cat_sum (γ := γ) st
    have e0 : (F0 m pc ls (st.map (rv γ))).monitorRoom = 0 := rfl
    rw [e0]
    show 2 * 0 + ((st.map (rv γ)).map fun v => v.category).sum + (kl κ' + 11) + 100 * d ≤ R.locals
    omega) a9 a10
  obtain ⟨s1, s2, s3, s4, s5⟩ := X'.leaveThrown (ra γ q) (g := F0 m pc ls (st.map (rv γ))) rfl rfl rfl (nohl_out hh b9) b6
  exact ⟨_, hstep _ fun acts => (hthr q rfl acts).trans s1, s2, s3, s4, ⟨locs ++ L, s5, hW'.2.2.2.1⟩, hW'.1, hW'.2.2.2.2.1, hW'.2.2.2.2.2, hok⟩
theorem J_callTV {f i n idx : Nat} {As : List AV} {q : Nat × Nat} (hm : MV κ' f n) (hl : lnk (ky κ).cls idx (ky κ')) (hn : As.length = n) (hdg : decode (kc κ) pc = .ok (.invokevirtual idx, 3)) (hlen : (entL (vr (some (f, i)) :: As)).length ≤ kl κ') (hst : st.length ≤ 15) (hs : stk = As.reverse ++ vr (some (f, i)) :: st)
    (hh : nohl κ pc = true) (hJ : J γ κ' d 0 (ent (kl κ') (vr (some (f, i)) :: As)) [] M (.inr q) M1) : J γ κ (d + 1) pc lv stk M (.inr q) M1 := by
  subst hs
  refine J_callT (front_V hm hl hn hdg) hdg hm.2.2.2.2.1 hm.2.2.2.2.2.2.1 (fun w hw => ?_) hlen hm.2.2.2.2.2.2.2.2 hst hh hJ
  rcases List.mem_cons.mp hw with rfl | hw
  · exact List.mem_append_right _ List.mem_cons_self
  · exact List.mem_append_left _ (List.mem_reverse.mpr hw)
end Throws
