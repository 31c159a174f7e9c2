theorem pCls_no {ts t2 : List Tok} {nm : Nm} (h : pCls ts = .inr (nm, t2)) : nm ∉ noCls := by
  unfold pCls at h
  split at h
  · rename_i c; have := (Prod.mk.inj (Sum.inr.inj h)).1; rw [← this]; exact c.2
  · cases h
theorem ct_handlerLine {G : List Sl} {US : UST} {A : List Nm} {S : List Sg} {W : List Cls} {w c : Nat} {br : Int32} {q0 nl0 nq nl nf nk : Nat} {p : PM} {NL : List Nine} {z : Nat × Nat × Nat × Nat × Nat × Nat} {L : List Tok} {M0 M : Mem} {Q X : Mem → Prop} (h : JM G US A S W w c br q0 nl0 nq nl nf nk p NL z L L.tail M0 M) (hx : Gx G w) (hc : c < W.length) (hm12 : (gc W c).2.2.2.2.2.length < 12) (hz : lz L) (hne : L.tail ≠ []) (hLl : L.length ≤ 1500) (h99 : z.2.2.2.2.2 = 99) (hzc : z.1 ≤ c) (hNL : NL.length + 3 ≤ 3900)
    (hX : ∀ e M', pHandler L.tail = .inl e → ThT e M' → JE G US A w z M0 M' → X M')
    (hQ0 : ∀ a b g k t t' M', pHandler L.tail = .inr ((a, b, g, k), t) → p.2.2.1.length = 8 → JE G US A w z M0 M' → TQ A L t' M' → mI M' 11 0 51 = Int32.ofNat 12 → Q M')
    (hQ1 : ∀ a b g k t t' M', pHandler L.tail = .inr ((a, b, g, k), t) → p.2.2.1.length ≠ 8 → JM G US A S W w c br q0 nl0 nq nl nf nk (pHn p (a, b, g, k, (hd L).2.2.2)) (((NL ++ [(1, a, 0, (hd L).2.2.2, false)]) ++ [(1, b, 0, (hd L).2.2.2, true)]) ++ [(1, g, 0, (hd L).2.2.2, false)]) z L t' M0 M' → Q M') : w_Model_handlerLine 0 Q X M := by
  have hL : L ≠ [] := by obtain ⟨i, z, e, -⟩ := hz; rw [e]; simp
  have ew : mR M 11 0 45 = some (12, w) := h.2.1.1.1.2.1
  have hm := h.2.2.1.1.1
  have hH8 := hm.2.2.2.2
  have hWl := h.2.1.1.1.1.1.1.2.2.1
  have l151 : mL M 151 w = 612 := h.2.1.1.2.2.1.1 151 (by omega) (by omega)
  unfold w_Model_handlerLine
  refine ⟨w, ew, ?_⟩
  rw [hm.2.2.1.2, oN_tnc (k := 12 * c + (gc W c).2.2.2.2.2.length) (by omega), l151, hm.2.1.2.2]
  refine ⟨(vp_oN (by omega)).mpr (by omega), ?_⟩
  have mn : ∀ {Q' : Int32 → Mem → Prop}, Q' (Int32.ofNat (min p.2.2.1.length 7)) M → w_JMath_min (Int32.ofNat p.2.2.1.length) 7 Q' M := fun {Q'} hq => by
    unfold w_JMath_min
    by_cases q : 7 < p.2.2.1.length
    · rw [Nat.min_eq_right (by omega)] at hq
      exact itp (lt_oN (a := 7) q (by omega)) hq
    · rw [Nat.min_eq_left (by omega)] at hq
      exact itn (nlt_oN (a := 7) (by omega) (by omega)) hq
  refine mn ?_
  rw [lit32 8, oN_mul, oN_add]
  unfold pHandler at hX hQ0 hQ1
  refine h.usedLabel hx hz hne (by omega) (fun a t1 M1 p1 ha n1 h1 _ => ?_) (fun e M' a b d => hX e M' (by rw [a]) b d)
  simp only [p1] at hX hQ0 hQ1
  refine h1.name hx hz n1 (fun b t2 M2 p2 hb n2 h2 => ?_) (fun e M' a b d => hX e M' (by rw [a]) b d)
  simp only [p2] at hX hQ0 hQ1
  have e1 : nc A b = nv A (1, b, 0, (hd L).2.2.2, true) := rfl
  have hn := h2.addNine (x := (1, b, 0, (hd L).2.2.2, true)) (Q := fun M9 => w_Model_usedLabel 0 (fun r11 M10 => w_Model_takes 0 (mI M10 11 0 24) (fun r13 M12 => if r13 = 0 then (w_Model_className 0 (fun r16 M15 => w_Model_handlerLine_j71 0 Q X (Int32.ofNat p.2.2.1.length) (Int32.ofNat (8 * (12 * c + (gc W c).2.2.2.2.2.length) + min p.2.2.1.length 7)) (nc A a) (nc A b) r11 r16 M15) X M12) else (w_Model_handlerLine_j71 0 Q X (Int32.ofNat p.2.2.1.length) (Int32.ofNat (8 * (12 * c + (gc W c).2.2.2.2.2.length) + min p.2.2.1.length 7)) (nc A a) (nc A b) r11 (-1) M12)) M10) X M9) hx hL (by simp; omega) rfl (fun _ => hb) ⟨Nat.le_of_ble_eq_true rfl, Nat.le_of_ble_eq_true rfl⟩ (fun M3 h3 _ => ?_)
  · exact hn
  refine h3.usedLabel hx hz n2 (by simp; omega) (fun g t3 M4 p4 hg n4 h4 _ => ?_) (fun e M' a b d => hX e M' (by rw [a]) b d)
  simp only [p4] at hX hQ0 hQ1
  have hany := h4.1.1.2.1 (24, nAny) (by simp [kF])
  rw [hany.1]
  -- the end of the line
  have j71 : ∀ k v6 t4 M5, k ∈ A → v6 = anyC A k → t4 ≠ [] → (if isWd nAny t3 then (.inr (nAny, t3.tail) : Rz Nm) else pCls t3) = .inr (k, t4) → JM G US A S W w c br q0 nl0 nq nl nf nk p (((NL ++ [(1, a, 0, (hd L).2.2.2, false)]) ++ [(1, b, 0, (hd L).2.2.2, true)]) ++ [(1, g, 0, (hd L).2.2.2, false)]) z L t4 M0 M5 → w_Model_handlerLine_j71 0 Q X (Int32.ofNat p.2.2.1.length) (Int32.ofNat (8 * (12 * c + (gc W c).2.2.2.2.2.length) + min p.2.2.1.length 7)) (nc A a) (nc A b) (nc A g) v6 M5 := by
    intro k v6 t4 M5 hk hv n5 p5 h5
    rw [p5] at hX hQ0 hQ1
    dsimp only at hX hQ0 hQ1
    unfold w_Model_handlerLine_j71
    refine h5.need (b := 0) hx hz n5 (by omega) (fun M6 c0 _ h6 => ?_) (fun M' c0 b d => hX _ M' (by rw [if_neg c0]) b d)
    rw [if_pos c0] at hQ0 hQ1
    have fin : ∀ s0, s0 = decide (p.2.2.1.length = 8) → w_Model_handlerLine_j92 0 Q X (Int32.ofNat p.2.2.1.length) (Int32.ofNat (8 * (12 * c + (gc W c).2.2.2.2.2.length) + min p.2.2.1.length 7)) (nc A a) (nc A b) (nc A g) v6 (b2 s0) 12 M6 := fun s0 hs0 =>
      h6.handler hx hc hm12 hL h99 hzc ha hb hg hk hv hs0 (fun M' q1 q2 q3 q4 => hQ0 a b g k t4 _ M' rfl q1 q2 q3 q4) (fun M' q1 q2 => hQ1 a b g k t4 _ M' rfl q1 q2)
    by_cases c8 : p.2.2.1.length = 8
    · exact itp (by rw [c8]; rfl) (fin true (decide_eq_true c8).symm)
    · exact itn (ne_oN (b := 8) c8 (by omega) (by omega)) (fin false (decide_eq_false c8).symm)
  refine h4.takes hx hz n4 hany.2 (fun M5 a5 n5 h5 => itn (by decide) ?_) (fun M5 a5 h5 => itp rfl ?_)
  · exact j71 nAny (-1) t3.tail M5 hany.2 (by unfold anyC; rw [if_pos rfl]) n5 (by rw [if_pos a5]) h5
  · have e0 : (if isWd nAny t3 = true then (.inr (nAny, t3.tail) : Rz Nm) else pCls t3) = pCls t3 := by rw [if_neg (by rw [a5]; decide)]
    refine h5.cls hx hz n4 (fun k t4 M6 p6 hk n6 h6 => ?_) (fun e M' a b d => hX e M' (by rw [e0, a]) b d)
    refine j71 k (nc A k) t4 M6 hk ?_ n6 (by rw [e0, p6]) h6
    have := pCls_no p6
    unfold anyC; rw [if_neg (fun q => this (by rw [q]; decide))]
