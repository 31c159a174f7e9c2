section Flow
variable {γ : Gm} {κ : Kp} {d pc : Nat} {lv : List (Option AV)} {st : List AV} {M M' : Mem} {out : Out}
theorem J_if_eq {x : Int32} {off : Int} {tgt : Nat} (hdg : decode (kc κ) pc = .ok (.ifCond .eq off, 3)) (ht : (pc : Int) + off = (tgt : Int)) (kt : x = 0 → J γ κ d tgt lv st M out M') (kf : ¬ x = 0 → J γ κ d (pc + 3) lv st M out M') : J γ κ d pc lv (vi x :: st) M out M' := by
  by_cases hP : x = 0
  · exact J.pure (fun _ _ hv => vdrop 1 _ hv.1 rfl) (fun p e R s m args' below meth c H locs cells slots ls Q a1 a2 a3 a4 a5 => lv_if_eq a1.1 a1.2.1 hdg ht (fun _ => a5) (fun h => absurd hP h)) (kt hP)
  · exact J.pure (fun _ _ hv => vdrop 1 _ hv.1 rfl) (fun p e R s m args' below meth c H locs cells slots ls Q a1 a2 a3 a4 a5 => lv_if_eq a1.1 a1.2.1 hdg ht (fun h => absurd h hP) (fun _ => a5)) (kf hP)
theorem J_if_ne {x : Int32} {off : Int} {tgt : Nat} (hdg : decode (kc κ) pc = .ok (.ifCond .ne off, 3)) (ht : (pc : Int) + off = (tgt : Int)) (kt : x = 0 → J γ κ d (pc + 3) lv st M out M') (kf : ¬ x = 0 → J γ κ d tgt lv st M out M') : J γ κ d pc lv (vi x :: st) M out M' := by
  by_cases hP : x = 0
  · exact J.pure (fun _ _ hv => vdrop 1 _ hv.1 rfl) (fun p e R s m args' below meth c H locs cells slots ls Q a1 a2 a3 a4 a5 => lv_if_ne a1.1 a1.2.1 hdg ht (fun h => absurd hP h) (fun _ => a5)) (kt hP)
  · exact J.pure (fun _ _ hv => vdrop 1 _ hv.1 rfl) (fun p e R s m args' below meth c H locs cells slots ls Q a1 a2 a3 a4 a5 => lv_if_ne a1.1 a1.2.1 hdg ht (fun _ => a5) (fun h => absurd h hP)) (kf hP)
theorem J_if_lt {x : Int32} {off : Int} {tgt : Nat} (hdg : decode (kc κ) pc = .ok (.ifCond .lt off, 3)) (ht : (pc : Int) + off = (tgt : Int)) (kt : x < 0 → J γ κ d tgt lv st M out M') (kf : ¬ x < 0 → J γ κ d (pc + 3) lv st M out M') : J γ κ d pc lv (vi x :: st) M out M' := by
  by_cases hP : x < 0
  · exact J.pure (fun _ _ hv => vdrop 1 _ hv.1 rfl) (fun p e R s m args' below meth c H locs cells slots ls Q a1 a2 a3 a4 a5 => lv_if_lt a1.1 a1.2.1 hdg ht (fun _ => a5) (fun h => absurd hP h)) (kt hP)
  · exact J.pure (fun _ _ hv => vdrop 1 _ hv.1 rfl) (fun p e R s m args' below meth c H locs cells slots ls Q a1 a2 a3 a4 a5 => lv_if_lt a1.1 a1.2.1 hdg ht (fun h => absurd h hP) (fun _ => a5)) (kf hP)
theorem J_if_ge {x : Int32} {off : Int} {tgt : Nat} (hdg : decode (kc κ) pc = .ok (.ifCond .ge off, 3)) (ht : (pc : Int) + off = (tgt : Int)) (kt : 0 ≤ x → J γ κ d tgt lv st M out M') (kf : ¬ 0 ≤ x → J γ κ d (pc + 3) lv st M out M') : J γ κ d pc lv (vi x :: st) M out M' := by
  by_cases hP : 0 ≤ x
  · exact J.pure (fun _ _ hv => vdrop 1 _ hv.1 rfl) (fun p e R s m args' below meth c H locs cells slots ls Q a1 a2 a3 a4 a5 => lv_if_ge a1.1 a1.2.1 hdg ht (fun _ => a5) (fun h => absurd hP h)) (kt hP)
  · exact J.pure (fun _ _ hv => vdrop 1 _ hv.1 rfl) (fun p e R s m args' below meth c H locs cells slots ls Q a1 a2 a3 a4 a5 => lv_if_ge a1.1 a1.2.1 hdg ht (fun h => absurd h hP) (fun _ => a5)) (kf hP)
theorem J_if_gt {x : Int32} {off : Int} {tgt : Nat} (hdg : decode (kc κ) pc = .ok (.ifCond .gt off, 3)) (ht : (pc : Int) + off = (tgt : Int)) (kt : 0 < x → J γ κ d tgt lv st M out M') (kf : ¬ 0 < x → J γ κ d (pc + 3) lv st M out M') : J γ κ d pc lv (vi x :: st) M out M' := by
  by_cases hP : 0 < x
  · exact J.pure (fun _ _ hv => vdrop 1 _ hv.1 rfl) (fun p e R s m args' below meth c H locs cells slots ls Q a1 a2 a3 a4 a5 => lv_if_gt a1.1 a1.2.1 hdg ht (fun _ => a5) (fun h => absurd hP h)) (kt hP)
  · exact J.pure (fun _ _ hv => vdrop 1 _ hv.1 rfl) (fun p e R s m args' below meth c H locs cells slots ls Q a1 a2 a3 a4 a5 => lv_if_gt a1.1 a1.2.1 hdg ht (fun h => absurd h hP) (fun _ => a5)) (kf hP)
theorem J_if_le {x : Int32} {off : Int} {tgt : Nat} (hdg : decode (kc κ) pc = .ok (.ifCond .le off, 3)) (ht : (pc : Int) + off = (tgt : Int)) (kt : x ≤ 0 → J γ κ d tgt lv st M out M') (kf : ¬ x ≤ 0 → J γ κ d (pc + 3) lv st M out M') : J γ κ d pc lv (vi x :: st) M out M' := by
  by_cases hP : x ≤ 0
  · exact J.pure (fun _ _ hv => vdrop 1 _ hv.1 rfl) (fun p e R s m args' below meth c H locs cells slots ls Q a1 a2 a3 a4 a5 => lv_if_le a1.1 a1.2.1 hdg ht (fun _ => a5) (fun h => absurd hP h)) (kt hP)
  · exact J.pure (fun _ _ hv => vdrop 1 _ hv.1 rfl) (fun p e R s m args' below meth c H locs cells slots ls Q a1 a2 a3 a4 a5 => lv_if_le a1.1 a1.2.1 hdg ht (fun h => absurd h hP) (fun _ => a5)) (kf hP)
theorem J_icmp_eq {x y : Int32} {off : Int} {tgt : Nat} (hdg : decode (kc κ) pc = .ok (.if_icmp .eq off, 3)) (ht : (pc : Int) + off = (tgt : Int)) (kt : x = y → J γ κ d tgt lv st M out M') (kf : ¬ x = y → J γ κ d (pc + 3) lv st M out M') : J γ κ d pc lv (vi y :: vi x :: st) M out M' := by
  by_cases hP : x = y
  · exact J.pure (fun _ _ hv => vdrop 2 _ hv.1 rfl) (fun p e R s m args' below meth c H locs cells slots ls Q a1 a2 a3 a4 a5 => lv_icmp_eq a1.1 a1.2.1 hdg ht (fun _ => a5) (fun h => absurd hP h)) (kt hP)
  · exact J.pure (fun _ _ hv => vdrop 2 _ hv.1 rfl) (fun p e R s m args' below meth c H locs cells slots ls Q a1 a2 a3 a4 a5 => lv_icmp_eq a1.1 a1.2.1 hdg ht (fun h => absurd h hP) (fun _ => a5)) (kf hP)
theorem J_icmp_ne {x y : Int32} {off : Int} {tgt : Nat} (hdg : decode (kc κ) pc = .ok (.if_icmp .ne off, 3)) (ht : (pc : Int) + off = (tgt : Int)) (kt : x = y → J γ κ d (pc + 3) lv st M out M') (kf : ¬ x = y → J γ κ d tgt lv st M out M') : J γ κ d pc lv (vi y :: vi x :: st) M out M' := by
  by_cases hP : x = y
  · exact J.pure (fun _ _ hv => vdrop 2 _ hv.1 rfl) (fun p e R s m args' below meth c H locs cells slots ls Q a1 a2 a3 a4 a5 => lv_icmp_ne a1.1 a1.2.1 hdg ht (fun h => absurd hP h) (fun _ => a5)) (kt hP)
  · exact J.pure (fun _ _ hv => vdrop 2 _ hv.1 rfl) (fun p e R s m args' below meth c H locs cells slots ls Q a1 a2 a3 a4 a5 => lv_icmp_ne a1.1 a1.2.1 hdg ht (fun _ => a5) (fun h => absurd h hP)) (kf hP)
theorem J_icmp_lt {x y : Int32} {off : Int} {tgt : Nat} (hdg : decode (kc κ) pc = .ok (.if_icmp .lt off, 3)) (ht : (pc : Int) + off = (tgt : Int)) (kt : x < y → J γ κ d tgt lv st M out M') (kf : ¬ x < y → J γ κ d (pc + 3) lv st M out M') : J γ κ d pc lv (vi y :: vi x :: st) M out M' := by
  by_cases hP : x < y
  · exact J.pure (fun _ _ hv => vdrop 2 _ hv.1 rfl) (fun p e R s m args' below meth c H locs cells slots ls Q a1 a2 a3 a4 a5 => lv_icmp_lt a1.1 a1.2.1 hdg ht (fun _ => a5) (fun h => absurd hP h)) (kt hP)
  · exact J.pure (fun _ _ hv => vdrop 2 _ hv.1 rfl) (fun p e R s m args' below meth c H locs cells slots ls Q a1 a2 a3 a4 a5 => lv_icmp_lt a1.1 a1.2.1 hdg ht (fun h => absurd h hP) (fun _ => a5)) (kf hP)
theorem J_icmp_ge {x y : Int32} {off : Int} {tgt : Nat} (hdg : decode (kc κ) pc = .ok (.if_icmp .ge off, 3)) (ht : (pc : Int) + off = (tgt : Int)) (kt : y ≤ x → J γ κ d tgt lv st M out M') (kf : ¬ y ≤ x → J γ κ d (pc + 3) lv st M out M') : J γ κ d pc lv (vi y :: vi x :: st) M out M' := by
  by_cases hP : y ≤ x
  · exact J.pure (fun _ _ hv => vdrop 2 _ hv.1 rfl) (fun p e R s m args' below meth c H locs cells slots ls Q a1 a2 a3 a4 a5 => lv_icmp_ge a1.1 a1.2.1 hdg ht (fun _ => a5) (fun h => absurd hP h)) (kt hP)
  · exact J.pure (fun _ _ hv => vdrop 2 _ hv.1 rfl) (fun p e R s m args' below meth c H locs cells slots ls Q a1 a2 a3 a4 a5 => lv_icmp_ge a1.1 a1.2.1 hdg ht (fun h => absurd h hP) (fun _ => a5)) (kf hP)
theorem J_icmp_gt {x y : Int32} {off : Int} {tgt : Nat} (hdg : decode (kc κ) pc = .ok (.if_icmp .gt off, 3)) (ht : (pc : Int) + off = (tgt : Int)) (kt : y < x → J γ κ d tgt lv st M out M') (kf : ¬ y < x → J γ κ d (pc + 3) lv st M out M') : J γ κ d pc lv (vi y :: vi x :: st) M out M' := by
  by_cases hP : y < x
  · exact J.pure (fun _ _ hv => vdrop 2 _ hv.1 rfl) (fun p e R s m args' below meth c H locs cells slots ls Q a1 a2 a3 a4 a5 => lv_icmp_gt a1.1 a1.2.1 hdg ht (fun _ => a5) (fun h => absurd hP h)) (kt hP)
  · exact J.pure (fun _ _ hv => vdrop 2 _ hv.1 rfl) (fun p e R s m args' below meth c H locs cells slots ls Q a1 a2 a3 a4 a5 => lv_icmp_gt a1.1 a1.2.1 hdg ht (fun h => absurd h hP) (fun _ => a5)) (kf hP)
theorem J_icmp_le {x y : Int32} {off : Int} {tgt : Nat} (hdg : decode (kc κ) pc = .ok (.if_icmp .le off, 3)) (ht : (pc : Int) + off = (tgt : Int)) (kt : x ≤ y → J γ κ d tgt lv st M out M') (kf : ¬ x ≤ y → J γ κ d (pc + 3) lv st M out M') : J γ κ d pc lv (vi y :: vi x :: st) M out M' := by
  by_cases hP : x ≤ y
  · exact J.pure (fun _ _ hv => vdrop 2 _ hv.1 rfl) (fun p e R s m args' below meth c H locs cells slots ls Q a1 a2 a3 a4 a5 => lv_icmp_le a1.1 a1.2.1 hdg ht (fun _ => a5) (fun h => absurd hP h)) (kt hP)
  · exact J.pure (fun _ _ hv => vdrop 2 _ hv.1 rfl) (fun p e R s m args' below meth c H locs cells slots ls Q a1 a2 a3 a4 a5 => lv_icmp_le a1.1 a1.2.1 hdg ht (fun h => absurd h hP) (fun _ => a5)) (kf hP)
theorem J_goto {off : Int} {tgt : Nat} (hdg : decode (kc κ) pc = .ok (.goto off, 3)) (ht : (pc : Int) + off = (tgt : Int)) (h : J γ κ d tgt lv st M out M') : J γ κ d pc lv st M out M' :=
  J.pure (fun _ _ hv => hv.1) (fun p e R s m args' below meth c H locs cells slots ls Q a1 a2 a3 a4 a5 => lv_goto a1.1 a1.2.1 hdg ht a5) h
theorem J_ifnull {r : Option (Nat × Nat)} {off : Int} {tgt : Nat} (hdg : decode (kc κ) pc = .ok (.ifnull off, 3)) (ht : (pc : Int) + off = (tgt : Int)) (kt : r = none → J γ κ d tgt lv st M out M') (kf : ¬ r = none → J γ κ d (pc + 3) lv st M out M') : J γ κ d pc lv (vr r :: st) M out M' := by
  cases r with
  | none => exact J.pure (fun _ _ hv => vdrop 1 _ hv.1 rfl) (fun p e R s m args' below meth c H locs cells slots ls Q a1 a2 a3 a4 a5 => lv_ifnullN a1.1 a1.2.1 hdg ht a5) (kt rfl)
  | some q => exact J.pure (fun _ _ hv => vdrop 1 _ hv.1 rfl) (fun p e R s m args' below meth c H locs cells slots ls Q a1 a2 a3 a4 a5 => lv_ifnull a1.1 a1.2.1 hdg a5) (kf (fun h => by cases h))
theorem J_ifnonnull {r : Option (Nat × Nat)} {off : Int} {tgt : Nat} (hdg : decode (kc κ) pc = .ok (.ifnonnull off, 3)) (ht : (pc : Int) + off = (tgt : Int)) (kt : r = none → J γ κ d (pc + 3) lv st M out M') (kf : ¬ r = none → J γ κ d tgt lv st M out M') : J γ κ d pc lv (vr r :: st) M out M' := by
  cases r with
  | none => exact J.pure (fun _ _ hv => vdrop 1 _ hv.1 rfl) (fun p e R s m args' below meth c H locs cells slots ls Q a1 a2 a3 a4 a5 => lv_ifnonnullN a1.1 a1.2.1 hdg a5) (kt rfl)
  | some q => exact J.pure (fun _ _ hv => vdrop 1 _ hv.1 rfl) (fun p e R s m args' below meth c H locs cells slots ls Q a1 a2 a3 a4 a5 => lv_ifnonnull a1.1 a1.2.1 hdg ht a5) (kf (fun h => by cases h))
/-- a tableswitch: where x goes -/
theorem J_tswO {x : Int32} {dflt lo hi : Int} {offs : Array Int} {len tgt : Nat} (hdg : decode (kc κ) pc = .ok (.tableswitch dflt lo hi offs, len)) (hx : x.toInt < lo ∨ hi < x.toInt) (ht : (pc : Int) + dflt = (tgt : Int)) (h : J γ κ d tgt lv st M out M') : J γ κ d pc lv (vi x :: st) M out M' :=
  J.pure (fun _ _ hv => vdrop 1 _ hv.1 rfl) (fun p e R s m args' below meth c H locs cells slots ls Q a1 a2 a3 a4 a5 => lv_tableOut a1.1 a1.2.1 hdg hx ht a5) h
theorem J_tswI {x : Int32} {dflt lo hi : Int} {offs : Array Int} {len tgt : Nat} {off : Int} (hdg : decode (kc κ) pc = .ok (.tableswitch dflt lo hi offs, len)) (h1 : ¬ x.toInt < lo) (h2 : ¬ hi < x.toInt) (ho : offs[(x.toInt - lo).toNat]? = some off) (ht : (pc : Int) + off = (tgt : Int)) (h : J γ κ d tgt lv st M out M') : J γ κ d pc lv (vi x :: st) M out M' :=
  J.pure (fun _ _ hv => vdrop 1 _ hv.1 rfl) (fun p e R s m args' below meth c H locs cells slots ls Q a1 a2 a3 a4 a5 => lv_tableIn a1.1 a1.2.1 hdg h1 h2 ho ht a5) h
theorem J_lsw {x : Int32} {dflt : Int} {ps : Array (Int × Int)} {len tgt : Nat} {off : Int} (hdg : decode (kc κ) pc = .ok (.lookupswitch dflt ps, len)) (hp : (ps.toList.zip (ps.toList.drop 1)).all (fun (a, next) => a.1 < next.1) = true) (ho : Op.lookupswitch.offset ps.toList dflt x.toInt = off) (ht : (pc : Int) + off = (tgt : Int)) (h : J γ κ d tgt lv st M out M') : J γ κ d pc lv (vi x :: st) M out M' :=
  J.pure (fun _ _ hv => vdrop 1 _ hv.1 rfl) (fun p e R s m args' below meth c H locs cells slots ls Q a1 a2 a3 a4 a5 => lv_lookup a1.1 a1.2.1 hdg hp ho ht a5) h
/-- a method's end -/
theorem J_end {v : Option AV} (row : ∀ (p : Program) (e : Env) (R : Room) (s : State) (m : MethodId) (args : Array Value) (below : List Frame) (meth : Method) (c : Code) (H : Heap) (locs : List Loc) (cells slots : Nat) (ls : Array Slot) (Qc : Array Value → State → Outcome → State → Prop), Cx γ κ p s m args meth c →
      (∀ t : State, t.heap = H → s.WarmedH t.vm → Qc args s (.returned (v.map (rv γ))) t) → (∀ q ∈ locs, Aq γ q.base) → W p (gl γ) e R s m args below meth c H locs cells slots (MQ below Qc args s cells slots (Aq γ)) (F0 m pc ls (st.map (rv γ))))
    (hv : ∀ w, v = some w → w ∈ st) : J γ κ d pc lv st M (.inl v) M := by
  refine ⟨Le.rf M, fun p e R s m args below meth c H locs cells slots ls a1 a2 a3 a4 a5 a6 a7 a8 a9 a10 => ?_⟩
  intro T hT X
  obtain ⟨t, h1, o, h2, h3, ⟨h4, h5⟩, L, ⟨-, h6, h7⟩, h8⟩ := row p e R s m args below meth c H locs cells slots ls (fun _ _ o t => o = .returned (v.map (rv γ)) ∧ t.heap = H) a1 (fun t ht _ => ⟨rfl, ht⟩) a2.2.2.2.1 T hT X
  subst h4
  refine ⟨t, h1, h2, h3, h6, ⟨L, ?_, h8⟩, by rw [h5]; exact a2.1, a2.2.2.2.2.1, a2.2.2.2.2.2, ?_⟩
  · rw [Nat.sub_self, Nat.sub_self, Nat.add_zero, Nat.add_zero]; exact h7
  · cases v with
    | none => trivial
    | some w => exact a4.1 w (hv w rfl)
theorem J_iret {x : Int32} (hr : kr κ = some .int) (hdg : decode (kc κ) pc = .ok (.ireturn, 1)) : J γ κ d pc lv [vi x] M (.inl (some (vi x))) M :=
  J_end (fun p e R s m args below meth c H locs cells slots ls Qc a1 hq hf => W.iret a1.1 a1.2.1 (a1.2.2.2.2.2.2.1.trans hr) hq hf hdg a1.2.2.2.2.2.1) (fun w h => by cases h; exact List.mem_cons_self)
theorem J_zret {x : Int32} (hr : kr κ = some .boolean) (hx : x = 0 ∨ x = 1) (hdg : decode (kc κ) pc = .ok (.ireturn, 1)) : J γ κ d pc lv [vi x] M (.inl (some (vi x))) M :=
  J_end (fun p e R s m args below meth c H locs cells slots ls Qc a1 hq hf => W.zret a1.1 a1.2.1 (a1.2.2.2.2.2.2.1.trans hr) (by rcases hx with rfl | rfl <;> rfl) hq hf hdg a1.2.2.2.2.2.1) (fun w h => by cases h; exact List.mem_cons_self)
theorem J_cret {x : Int32} (hr : kr κ = some .char) (hx : narrow .char (.int x) = .int x) (hdg : decode (kc κ) pc = .ok (.ireturn, 1)) : J γ κ d pc lv [vi x] M (.inl (some (vi x))) M :=
  J_end (fun p e R s m args below meth c H locs cells slots ls Qc a1 hq hf => W.zret a1.1 a1.2.1 (a1.2.2.2.2.2.2.1.trans hr) hx hq hf hdg a1.2.2.2.2.2.1) (fun w h => by cases h; exact List.mem_cons_self)
theorem J_bret {x : Int32} (hr : kr κ = some .byte) (hx : narrow .byte (.int x) = .int x) (hdg : decode (kc κ) pc = .ok (.ireturn, 1)) : J γ κ d pc lv [vi x] M (.inl (some (vi x))) M :=
  J_end (fun p e R s m args below meth c H locs cells slots ls Qc a1 hq hf => W.zret a1.1 a1.2.1 (a1.2.2.2.2.2.2.1.trans hr) hx hq hf hdg a1.2.2.2.2.2.1) (fun w h => by cases h; exact List.mem_cons_self)
theorem J_vret (hr : kr κ = none) (hdg : decode (kc κ) pc = .ok (.return_, 1)) : J γ κ d pc lv [] M (.inl none) M :=
  J_end (fun p e R s m args below meth c H locs cells slots ls Qc a1 hq hf => W.vret a1.1 a1.2.1 (a1.2.2.2.2.2.2.1.trans hr) hq hf hdg a1.2.2.2.2.2.1) (fun w h => by cases h)
theorem J_lret {x : Int64} (hr : kr κ = some .long) (hdg : decode (kc κ) pc = .ok (.lreturn, 1)) : J γ κ d pc lv [vl x] M (.inl (some (vl x))) M :=
  J_end (fun p e R s m args below meth c H locs cells slots ls Qc a1 hq hf => W.lret a1.1 a1.2.1 (a1.2.2.2.2.2.2.1.trans hr) hq hf hdg a1.2.2.2.2.2.1) (fun w h => by cases h; exact List.mem_cons_self)
theorem J_aret {x : Option (Nat × Nat)} {rt : FieldType} (hr : kr κ = some rt) (hrt : isRf rt = true) (hdg : decode (kc κ) pc = .ok (.areturn, 1)) : J γ κ d pc lv [vr x] M (.inl (some (vr x))) M :=
  J_end (fun p e R s m args below meth c H locs cells slots ls Qc a1 hq hf => W.aret a1.1 a1.2.1 (a1.2.2.2.2.2.2.1.trans hr) (by cases rt <;> first | exact Or.inl ⟨_, rfl⟩ | exact Or.inr ⟨_, rfl⟩ | cases hrt) (by cases x; exact Or.inl rfl; exact Or.inr ⟨_, rfl⟩) hq hf hdg a1.2.2.2.2.2.1) (fun w h => by cases h; exact List.mem_cons_self)
end Flow
