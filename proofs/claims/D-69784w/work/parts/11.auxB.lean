section Thr
variable {γ : Gm} {κ κ' : Kp} {d d' pc : Nat} {lv : List (Option AV)} {st stk : List AV} {M M1 M' : Mem} {out : Out} {Q : Out → Mem → Prop}
/-- a static of the JDK's that holds a reference or null -/
def Zr (γ : Gm) (C n t : String) (q : Nat) : Prop := va_Z C n t .null (Aq γ) (gs γ) (gs γ).heap ∨ va_Z C n t (.ref (gX γ q)) (Aq γ) (gs γ) (gs γ).heap
def Xt (γ : Gm) : Prop := Zr γ "java/lang/Throwable" "UNASSIGNED_STACK" "[Ljava/lang/StackTraceElement;" 302 ∧ Zr γ "java/lang/Throwable" "SUPPRESSED_SENTINEL" "Ljava/util/List;" 303
theorem E_getT {idx q : Nat} {C n t : String} (hz : Zr γ C n t q) (hl : Cond.fieldLink (ky κ).cls idx C n t ∈ tables_1) (hdg : decode (kc κ) pc = .ok (.getstatic idx, 3)) (h : ∀ r : Option (Nat × Nat), E γ κ d (pc + 3) lv (vr r :: st) M Q) : E γ κ d pc lv st M Q := by
  have key : ∃ r : Option (Nat × Nat), (r = none ∨ r = some (0, q)) ∧ va_Z C n t (rv γ (vr r)) (Aq γ) (gs γ) (gs γ).heap := by
    rcases hz with hz | hz
    · exact ⟨none, Or.inl rfl, hz⟩
    · exact ⟨some (0, q), Or.inr rfl, hz⟩
  obtain ⟨r, hr, hz⟩ := key
  refine E.up (fun out M' hJ => ?_) (h r)
  refine J.pure (fun _ _ hv => vpush (r := vr r) 0 _ hv.1 rfl ?_) (fun p e R s m args' below meth c H locs cells slots ls Q a1 a2 a3 a4 a5 => ?_) hJ
  · rcases hr with rfl | rfl
    · trivial
    · exact Or.inl rfl
  obtain ⟨b1, b2, b3, b4, b5, b6, b7, b8, b9, b10⟩ := a1
  obtain ⟨cf, kf, fi, f, a, cell, h1, h2, h3, h4, g5, h6, h7, h8⟩ := va_Z.moved b10.alike hz
  exact W.gets b1 b2 b4 (b5 _ hl rfl) h1 h2 h3 h4 (low_at a2.1 g5) (fun e => by rw [e] at h6; cases h6) h7 rfl hdg a5
end Thr
