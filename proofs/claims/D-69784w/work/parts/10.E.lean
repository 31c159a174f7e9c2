/-! what a method comes to, with a wish Q on its end -/
theorem J.mono {γ : Gm} {κ : Kp} {d d' pc : Nat} {lv : List (Option AV)} {st : List AV} {M M' : Mem} {out : Out} (h : J γ κ d pc lv st M out M') (hd : d ≤ d') : J γ κ d' pc lv st M out M' :=
  ⟨h.1, fun p e R s m args below meth c H locs cells slots ls a1 a2 a3 a4 a5 a6 a7 a8 a9 a10 => h.2 p e R s m args below meth c H locs cells slots ls a1 a2 a3 a4 a5 a6 (by omega) (by omega) a9 a10⟩
def E (γ : Gm) (κ : Kp) (d pc : Nat) (lv : List (Option AV)) (st : List AV) (M : Mem) (Q : Out → Mem → Prop) : Prop := ∃ o M', Q o M' ∧ J γ κ d pc lv st M o M'
def Qi (Q : Int32 → Mem → Prop) : Out → Mem → Prop := fun o M => ∃ r, o = .inl (some (vi r)) ∧ Q r M
def Ql (Q : Int64 → Mem → Prop) : Out → Mem → Prop := fun o M => ∃ r, o = .inl (some (vl r)) ∧ Q r M
def Qr (f : Nat) (Q : Nat → Mem → Prop) : Out → Mem → Prop := fun o M => ∃ r, o = .inl (some (vr (some (f, r)))) ∧ Q r M
def Qv (Q : Mem → Prop) : Out → Mem → Prop := fun o M => o = .inl none ∧ Q M
/-- or it throws q -/
def Qx (q : Nat × Nat) (N : Out → Mem → Prop) (X : Mem → Prop) : Out → Mem → Prop := fun o M => N o M ∨ (o = .inr q ∧ X M)
section EE
variable {γ : Gm} {κ κ' : Kp} {d d' pc : Nat} {lv : List (Option AV)} {st stk : List AV} {M : Mem} {Q : Out → Mem → Prop}
theorem E.mono (h : E γ κ d pc lv st M Q) (hd : d ≤ d') : E γ κ d' pc lv st M Q := by
  obtain ⟨o, M', h1, h2⟩ := h
  exact ⟨o, M', h1, h2.mono hd⟩
theorem E.up {pc' : Nat} {lv' : List (Option AV)} {st' : List AV} {M1 : Mem} (f : ∀ o M', J γ κ d pc' lv' st' M1 o M' → J γ κ d pc lv st M o M') (h : E γ κ d pc' lv' st' M1 Q) : E γ κ d pc lv st M Q := by
  obtain ⟨o, M', h1, h2⟩ := h
  exact ⟨o, M', h1, f o M' h2⟩
theorem E_blk {tb : Tb} {pc' : Nat} {lv' : List (Option AV)} {st' : List AV} {M1 : Mem} {C : Prop} (htb : TBok γ (ky κ).cls tb) (l : List Instr) (hd : decs (kc κ) pc l = true) (he : evs (kl κ) tb l lv st M = some (lv', st', M1, C)) (hp : pc' = pc + blen l) (hC : C) (h : E γ κ d pc' lv' st' M1 Q) : E γ κ d pc lv st M Q :=
  E.up (fun _ _ hJ => J_blk htb l hd he hp hC hJ) h
theorem E_goto {off : Int} {tgt : Nat} (hdg : decode (kc κ) pc = .ok (.goto off, 3)) (ht : (pc : Int) + off = (tgt : Int)) (h : E γ κ d tgt lv st M Q) : E γ κ d pc lv st M Q := E.up (fun _ _ hJ => J_goto hdg ht hJ) h
theorem E_if_eq {x : Int32} {off : Int} {tgt : Nat} (hdg : decode (kc κ) pc = .ok (.ifCond .eq off, 3)) (ht : (pc : Int) + off = (tgt : Int)) (kt : x = 0 → E γ κ d tgt lv st M Q) (kf : ¬ x = 0 → E γ κ d (pc + 3) lv st M Q) : E γ κ d pc lv (vi x :: st) M Q := by
  by_cases hP : x = 0
  · exact E.up (fun _ _ hJ => J_if_eq hdg ht (fun _ => hJ) (fun h => absurd hP h)) (kt hP)
  · exact E.up (fun _ _ hJ => J_if_eq hdg ht (fun h => absurd h hP) (fun _ => hJ)) (kf hP)
theorem E_if_ne {x : Int32} {off : Int} {tgt : Nat} (hdg : decode (kc κ) pc = .ok (.ifCond .ne off, 3)) (ht : (pc : Int) + off = (tgt : Int)) (kt : x = 0 → E γ κ d (pc + 3) lv st M Q) (kf : ¬ x = 0 → E γ κ d tgt lv st M Q) : E γ κ d pc lv (vi x :: st) M Q := by
  by_cases hP : x = 0
  · exact E.up (fun _ _ hJ => J_if_ne hdg ht (fun _ => hJ) (fun h => absurd hP h)) (kt hP)
  · exact E.up (fun _ _ hJ => J_if_ne hdg ht (fun h => absurd h hP) (fun _ => hJ)) (kf hP)
theorem E_if_lt {x : Int32} {off : Int} {tgt : Nat} (hdg : decode (kc κ) pc = .ok (.ifCond .lt off, 3)) (ht : (pc : Int) + off = (tgt : Int)) (kt : x < 0 → E γ κ d tgt lv st M Q) (kf : ¬ x < 0 → E γ κ d (pc + 3) lv st M Q) : E γ κ d pc lv (vi x :: st) M Q := by
  by_cases hP : x < 0
  · exact E.up (fun _ _ hJ => J_if_lt hdg ht (fun _ => hJ) (fun h => absurd hP h)) (kt hP)
  · exact E.up (fun _ _ hJ => J_if_lt hdg ht (fun h => absurd h hP) (fun _ => hJ)) (kf hP)
theorem E_if_ge {x : Int32} {off : Int} {tgt : Nat} (hdg : decode (kc κ) pc = .ok (.ifCond .ge off, 3)) (ht : (pc : Int) + off = (tgt : Int)) (kt : 0 ≤ x → E γ κ d tgt lv st M Q) (kf : ¬ 0 ≤ x → E γ κ d (pc + 3) lv st M Q) : E γ κ d pc lv (vi x :: st) M Q := by
  by_cases hP : 0 ≤ x
  · exact E.up (fun _ _ hJ => J_if_ge hdg ht (fun _ => hJ) (fun h => absurd hP h)) (kt hP)
  · exact E.up (fun _ _ hJ => J_if_ge hdg ht (fun h => absurd h hP) (fun _ => hJ)) (kf hP)
theorem E_if_gt {x : Int32} {off : Int} {tgt : Nat} (hdg : decode (kc κ) pc = .ok (.ifCond .gt off, 3)) (ht : (pc : Int) + off = (tgt : Int)) (kt : 0 < x → E γ κ d tgt lv st M Q) (kf : ¬ 0 < x → E γ κ d (pc + 3) lv st M Q) : E γ κ d pc lv (vi x :: st) M Q := by
  by_cases hP : 0 < x
  · exact E.up (fun _ _ hJ => J_if_gt hdg ht (fun _ => hJ) (fun h => absurd hP h)) (kt hP)
  · exact E.up (fun _ _ hJ => J_if_gt hdg ht (fun h => absurd h hP) (fun _ => hJ)) (kf hP)
theorem E_if_le {x : Int32} {off : Int} {tgt : Nat} (hdg : decode (kc κ) pc = .ok (.ifCond .le off, 3)) (ht : (pc : Int) + off = (tgt : Int)) (kt : x ≤ 0 → E γ κ d tgt lv st M Q) (kf : ¬ x ≤ 0 → E γ κ d (pc + 3) lv st M Q) : E γ κ d pc lv (vi x :: st) M Q := by
  by_cases hP : x ≤ 0
  · exact E.up (fun _ _ hJ => J_if_le hdg ht (fun _ => hJ) (fun h => absurd hP h)) (kt hP)
  · exact E.up (fun _ _ hJ => J_if_le hdg ht (fun h => absurd h hP) (fun _ => hJ)) (kf hP)
theorem E_icmp_eq {x y : Int32} {off : Int} {tgt : Nat} (hdg : decode (kc κ) pc = .ok (.if_icmp .eq off, 3)) (ht : (pc : Int) + off = (tgt : Int)) (kt : x = y → E γ κ d tgt lv st M Q) (kf : ¬ x = y → E γ κ d (pc + 3) lv st M Q) : E γ κ d pc lv (vi y :: vi x :: st) M Q := by
  by_cases hP : x = y
  · exact E.up (fun _ _ hJ => J_icmp_eq hdg ht (fun _ => hJ) (fun h => absurd hP h)) (kt hP)
  · exact E.up (fun _ _ hJ => J_icmp_eq hdg ht (fun h => absurd h hP) (fun _ => hJ)) (kf hP)
theorem E_icmp_ne {x y : Int32} {off : Int} {tgt : Nat} (hdg : decode (kc κ) pc = .ok (.if_icmp .ne off, 3)) (ht : (pc : Int) + off = (tgt : Int)) (kt : x = y → E γ κ d (pc + 3) lv st M Q) (kf : ¬ x = y → E γ κ d tgt lv st M Q) : E γ κ d pc lv (vi y :: vi x :: st) M Q := by
  by_cases hP : x = y
  · exact E.up (fun _ _ hJ => J_icmp_ne hdg ht (fun _ => hJ) (fun h => absurd hP h)) (kt hP)
  · exact E.up (fun _ _ hJ => J_icmp_ne hdg ht (fun h => absurd h hP) (fun _ => hJ)) (kf hP)
theorem E_icmp_lt {x y : Int32} {off : Int} {tgt : Nat} (hdg : decode (kc κ) pc = .ok (.if_icmp .lt off, 3)) (ht : (pc : Int) + off = (tgt : Int)) (kt : x < y → E γ κ d tgt lv st M Q) (kf : ¬ x < y → E γ κ d (pc + 3) lv st M Q) : E γ κ d pc lv (vi y :: vi x :: st) M Q := by
  by_cases hP : x < y
  · exact E.up (fun _ _ hJ => J_icmp_lt hdg ht (fun _ => hJ) (fun h => absurd hP h)) (kt hP)
  · exact E.up (fun _ _ hJ => J_icmp_lt hdg ht (fun h => absurd h hP) (fun _ => hJ)) (kf hP)
theorem E_icmp_ge {x y : Int32} {off : Int} {tgt : Nat} (hdg : decode (kc κ) pc = .ok (.if_icmp .ge off, 3)) (ht : (pc : Int) + off = (tgt : Int)) (kt : y ≤ x → E γ κ d tgt lv st M Q) (kf : ¬ y ≤ x → E γ κ d (pc + 3) lv st M Q) : E γ κ d pc lv (vi y :: vi x :: st) M Q := by
  by_cases hP : y ≤ x
  · exact E.up (fun _ _ hJ => J_icmp_ge hdg ht (fun _ => hJ) (fun h => absurd hP h)) (kt hP)
  · exact E.up (fun _ _ hJ => J_icmp_ge hdg ht (fun h => absurd h hP) (fun _ => hJ)) (kf hP)
theorem E_icmp_gt {x y : Int32} {off : Int} {tgt : Nat} (hdg : decode (kc κ) pc = .ok (.if_icmp .gt off, 3)) (ht : (pc : Int) + off = (tgt : Int)) (kt : y < x → E γ κ d tgt lv st M Q) (kf : ¬ y < x → E γ κ d (pc + 3) lv st M Q) : E γ κ d pc lv (vi y :: vi x :: st) M Q := by
  by_cases hP : y < x
  · exact E.up (fun _ _ hJ => J_icmp_gt hdg ht (fun _ => hJ) (fun h => absurd hP h)) (kt hP)
  · exact E.up (fun _ _ hJ => J_icmp_gt hdg ht (fun h => absurd h hP) (fun _ => hJ)) (kf hP)
theorem E_icmp_le {x y : Int32} {off : Int} {tgt : Nat} (hdg : decode (kc κ) pc = .ok (.if_icmp .le off, 3)) (ht : (pc : Int) + off = (tgt : Int)) (kt : x ≤ y → E γ κ d tgt lv st M Q) (kf : ¬ x ≤ y → E γ κ d (pc + 3) lv st M Q) : E γ κ d pc lv (vi y :: vi x :: st) M Q := by
  by_cases hP : x ≤ y
  · exact E.up (fun _ _ hJ => J_icmp_le hdg ht (fun _ => hJ) (fun h => absurd hP h)) (kt hP)
  · exact E.up (fun _ _ hJ => J_icmp_le hdg ht (fun h => absurd h hP) (fun _ => hJ)) (kf hP)
theorem E_ifnull {r : Option (Nat × Nat)} {off : Int} {tgt : Nat} (hdg : decode (kc κ) pc = .ok (.ifnull off, 3)) (ht : (pc : Int) + off = (tgt : Int)) (kt : r = none → E γ κ d tgt lv st M Q) (kf : ¬ r = none → E γ κ d (pc + 3) lv st M Q) : E γ κ d pc lv (vr r :: st) M Q := by
  by_cases hP : r = none
  · exact E.up (fun _ _ hJ => J_ifnull hdg ht (fun _ => hJ) (fun h => absurd hP h)) (kt hP)
  · exact E.up (fun _ _ hJ => J_ifnull hdg ht (fun h => absurd h hP) (fun _ => hJ)) (kf hP)
theorem E_ifnonnull {r : Option (Nat × Nat)} {off : Int} {tgt : Nat} (hdg : decode (kc κ) pc = .ok (.ifnonnull off, 3)) (ht : (pc : Int) + off = (tgt : Int)) (kt : r = none → E γ κ d (pc + 3) lv st M Q) (kf : ¬ r = none → E γ κ d tgt lv st M Q) : E γ κ d pc lv (vr r :: st) M Q := by
  by_cases hP : r = none
  · exact E.up (fun _ _ hJ => J_ifnonnull hdg ht (fun _ => hJ) (fun h => absurd hP h)) (kt hP)
  · exact E.up (fun _ _ hJ => J_ifnonnull hdg ht (fun h => absurd h hP) (fun _ => hJ)) (kf hP)
theorem E_iret {x : Int32} {Q : Int32 → Mem → Prop} (hr : kr κ = some .int) (hdg : decode (kc κ) pc = .ok (.ireturn, 1)) (h : Q x M) : E γ κ d pc lv [vi x] M (Qi Q) := ⟨_, _, ⟨x, rfl, h⟩, J_iret hr hdg⟩
theorem E_zret {x : Int32} {Q : Int32 → Mem → Prop} (hr : kr κ = some .boolean) (hx : x = 0 ∨ x = 1) (hdg : decode (kc κ) pc = .ok (.ireturn, 1)) (h : Q x M) : E γ κ d pc lv [vi x] M (Qi Q) := ⟨_, _, ⟨x, rfl, h⟩, J_zret hr hx hdg⟩
theorem E_vret {Q : Mem → Prop} (hr : kr κ = none) (hdg : decode (kc κ) pc = .ok (.return_, 1)) (h : Q M) : E γ κ d pc lv [] M (Qv Q) := ⟨_, _, ⟨rfl, h⟩, J_vret hr hdg⟩
theorem E_lret {x : Int64} {Q : Int64 → Mem → Prop} (hr : kr κ = some .long) (hdg : decode (kc κ) pc = .ok (.lreturn, 1)) (h : Q x M) : E γ κ d pc lv [vl x] M (Ql Q) := ⟨_, _, ⟨x, rfl, h⟩, J_lret hr hdg⟩
theorem E_aret {f i : Nat} {Q : Nat → Mem → Prop} {rt : FieldType} (hr : kr κ = some rt) (hrt : isRf rt = true) (hdg : decode (kc κ) pc = .ok (.areturn, 1)) (h : Q i M) : E γ κ d pc lv [vr (some (f, i))] M (Qr f Q) := ⟨_, _, ⟨i, rfl, h⟩, J_aret hr hrt hdg⟩
theorem E_throw {q : Nat × Nat} {N : Out → Mem → Prop} {X : Mem → Prop} (hq : q.1 ≠ 0) (hh : nohl κ pc = true) (hdg : decode (kc κ) pc = .ok (.athrow, 1)) (h : X M) : E γ κ d pc lv (vr (some q) :: st) M (Qx q N X) := ⟨_, _, Or.inr ⟨rfl, h⟩, J_throw hq hh hdg⟩
theorem E.nx {q : Nat × Nat} {N : Out → Mem → Prop} {X : Mem → Prop} (h : E γ κ d pc lv st M N) : E γ κ d pc lv st M (Qx q N X) := by
  obtain ⟨o, M', h1, h2⟩ := h
  exact ⟨o, M', Or.inl h1, h2⟩
/-- a call by a reference, by its callee's wish -/
theorem E_callV {f i n idx : Nat} {As : List AV} {P : Out → Mem → Prop} (hm : MV κ' f n) (hl : lnk (ky κ).cls idx (ky κ')) (hn : As.length = n) (hdg : decode (kc κ) pc = .ok (.invokevirtual idx, 3)) (hlen : (entL (vr (some (f, i)) :: As)).length ≤ kl κ') (hst : st.length ≤ 15) (hs : stk = As.reverse ++ vr (some (f, i)) :: st) (hd : d' ≤ d)
    (hE : E γ κ' d' 0 (ent (kl κ') (vr (some (f, i)) :: As)) [] M P) (hP : ∀ o M1, P o M1 → ∃ v, o = .inl v) (h : ∀ v M1, P (.inl v) M1 → E γ κ (d + 1) (pc + 3) lv (v.toList ++ st) M1 Q) : E γ κ (d + 1) pc lv stk M Q := by
  obtain ⟨o, M1, hp, hJ⟩ := hE
  obtain ⟨v, rfl⟩ := hP o M1 hp
  exact E.up (fun _ _ hJ2 => J_callV hm hl hn hdg hlen hst hs (hJ.mono hd) hJ2) (h v M1 hp)
theorem E_callS {n idx : Nat} {As : List AV} {P : Out → Mem → Prop} (hm : MSt κ' n) (hl : lnk (ky κ).cls idx (ky κ')) (hn : As.length = n) (hdg : decode (kc κ) pc = .ok (.invokestatic idx, 3)) (hlen : (entL As).length ≤ kl κ') (hst : st.length ≤ 15) (hs : stk = As.reverse ++ st) (hd : d' ≤ d)
    (hE : E γ κ' d' 0 (ent (kl κ') As) [] M P) (hP : ∀ o M1, P o M1 → ∃ v, o = .inl v) (h : ∀ v M1, P (.inl v) M1 → E γ κ (d + 1) (pc + 3) lv (v.toList ++ st) M1 Q) : E γ κ (d + 1) pc lv stk M Q := by
  obtain ⟨o, M1, hp, hJ⟩ := hE
  obtain ⟨v, rfl⟩ := hP o M1 hp
  exact E.up (fun _ _ hJ2 => J_callS hm hl hn hdg hlen hst hs (hJ.mono hd) hJ2) (h v M1 hp)
/-- a call that may throw, and is not caught here -/
theorem E_callX {f i n idx : Nat} {As : List AV} {q : Nat × Nat} {P N : Out → Mem → Prop} {X Y : Mem → Prop} (hm : MV κ' f n) (hl : lnk (ky κ).cls idx (ky κ')) (hn : As.length = n) (hdg : decode (kc κ) pc = .ok (.invokevirtual idx, 3)) (hlen : (entL (vr (some (f, i)) :: As)).length ≤ kl κ') (hst : st.length ≤ 15) (hs : stk = As.reverse ++ vr (some (f, i)) :: st) (hd : d' ≤ d) (hh : nohl κ pc = true)
    (hE : E γ κ' d' 0 (ent (kl κ') (vr (some (f, i)) :: As)) [] M (Qx q P Y)) (hP : ∀ o M1, P o M1 → ∃ v, o = .inl v) (hY : ∀ M1, Y M1 → X M1) (h : ∀ v M1, P (.inl v) M1 → E γ κ (d + 1) (pc + 3) lv (v.toList ++ st) M1 (Qx q N X)) : E γ κ (d + 1) pc lv stk M (Qx q N X) := by
  obtain ⟨o, M1, hp, hJ⟩ := hE
  rcases hp with hp | ⟨rfl, hp⟩
  · obtain ⟨v, rfl⟩ := hP o M1 hp
    exact E.up (fun _ _ hJ2 => J_callV hm hl hn hdg hlen hst hs (hJ.mono hd) hJ2) (h v M1 hp)
  · exact ⟨_, _, Or.inr ⟨rfl, hY M1 hp⟩, J_callTV hm hl hn hdg hlen hst hs hh (hJ.mono hd)⟩
theorem Qi_r {Q : Int32 → Mem → Prop} {o : Out} {M : Mem} (h : Qi Q o M) : ∃ v, o = .inl v := by obtain ⟨r, rfl, -⟩ := h; exact ⟨_, rfl⟩
theorem Ql_r {Q : Int64 → Mem → Prop} {o : Out} {M : Mem} (h : Ql Q o M) : ∃ v, o = .inl v := by obtain ⟨r, rfl, -⟩ := h; exact ⟨_, rfl⟩
theorem Qr_r {f : Nat} {Q : Nat → Mem → Prop} {o : Out} {M : Mem} (h : Qr f Q o M) : ∃ v, o = .inl v := by obtain ⟨r, rfl, -⟩ := h; exact ⟨_, rfl⟩
theorem Qv_r {Q : Mem → Prop} {o : Out} {M : Mem} (h : Qv Q o M) : ∃ v, o = .inl v := by obtain ⟨rfl, -⟩ := h; exact ⟨_, rfl⟩
theorem Qi_k {Q : Int32 → Mem → Prop} {v : Option AV} {M1 : Mem} {R : List AV → Prop} (h : Qi Q (.inl v) M1) (k : ∀ r, Q r M1 → R (vi r :: st)) : R (v.toList ++ st) := by
  obtain ⟨r, e, h1⟩ := h
  cases e
  exact k r h1
theorem Ql_k {Q : Int64 → Mem → Prop} {v : Option AV} {M1 : Mem} {R : List AV → Prop} (h : Ql Q (.inl v) M1) (k : ∀ r, Q r M1 → R (vl r :: st)) : R (v.toList ++ st) := by
  obtain ⟨r, e, h1⟩ := h
  cases e
  exact k r h1
theorem Qr_k {f : Nat} {Q : Nat → Mem → Prop} {v : Option AV} {M1 : Mem} {R : List AV → Prop} (h : Qr f Q (.inl v) M1) (k : ∀ r, Q r M1 → R (vr (some (f, r)) :: st)) : R (v.toList ++ st) := by
  obtain ⟨r, e, h1⟩ := h
  cases e
  exact k r h1
theorem Qv_k {Q : Mem → Prop} {v : Option AV} {M1 : Mem} {R : List AV → Prop} (h : Qv Q (.inl v) M1) (k : Q M1 → R st) : R (v.toList ++ st) := by
  obtain ⟨e, h1⟩ := h
  cases e
  exact k h1
end EE
