/-! THE MACHINE IN THE WORKS: cells, fixed fields -/
abbrev SHp : Nat := (9103844117041063690003654705044170549572823984414991173111452863239821597311990959759848454920633136912792794454270291583870841525473278695111610037357102525785256688467637207773979107724708515567528535235935734505218224226558424374956176114076731472337829652094812135749967204476783444186538920490765251539671294016671972776507091795925239923092397431717364959555192041307565564191171459118936026586682515422508203288232843837904905765168438585778111748782540105360469791148849270506429941705956048091489149198462679617257166172134309952192025370111039330275751048790999791424178117146654067113012306648562383501251379995147994069830174033066235810417323882131226624)
section
variable {A : List Nm} {W : List Cls} {w C B F t : Nat} {br : Int32} {nq nk np nh nr : Nat} {s s' : Ms} {M M' : Mem} {U : List Un} {c j a qi : Nat} {lo st lo' st' : List Vl} {q : Nat × Nat} {i : Ins} {Q : Mem → Prop} {r v : Int32}
set_option maxRecDepth 4000 in
theorem RX.hp {X : Hp} (h : RX A W w br nq nk np nh nr C B F t s M) (hf : Fr SHp M M') (hH : rH w (yH s X) M') (hF : rFt w B F (yH s X) M') : RX A W w br nq nk np nh nr C B F t (yH s X) M' := by
  obtain ⟨⟨a1, a2⟩, ⟨b1, b2'⟩, -, ⟨d1, d2, d3⟩, ⟨e1, e2, e3⟩, g⟩ := h
  exact ⟨⟨(a1.fr hf).1, a2.fr hf⟩, ⟨b1.fr hf, b2'.fr hf⟩, ⟨hH, hF⟩, ⟨d1.fr hf, d2.fr hf, d3.fr hf⟩, ⟨(hf.R (f := 6) (k := 2) rfl w).trans e1, (hf.L (f := 700) rfl w).trans e2, fun t' ht => (hf.Ra (f := 700) rfl rfl w t').trans (e3 t' ht)⟩, fun t' ht hne => (g t' ht hne).fr hf rfl⟩
theorem RM.hp {X : Hp} (h : RM A W w br nq nk np nh nr C B F t s U M) (hf : Fr SHp M M') (hH : rH w (yH s X) M') (hF : rFt w B F (yH s X) M') : RM A W w br nq nk np nh nr C B F t (yH s X) U M' := ⟨h.1.hp hf hH hF, h.2.1.fr hf rfl, h.2.2.1.fr hf rfl, fun z => (h.2.2.2 z).fr hf⟩
theorem RI.hp {X : Hp} (h : RI A W w br nq nk np nh nr C B F t s c j a lo st U M) (hf : Fr SHp M M') (hH : rH w (yH s X) M') (hF : rFt w B F (yH s X) M') : RI A W w br nq nk np nh nr C B F t (yH s X) c j a lo st U M' :=
  ⟨h.1.hp hf hH hF, ⟨(hf.I (f := 6) (k := 33) rfl w).trans h.2.1.1, (hf.I (f := 6) (k := 34) rfl w).trans h.2.1.2⟩, h.2.2⟩
/-- a cell -/
theorem RI.cell {p : Nat} (h : RI A W w br nq nk np nh nr C B F t s c j a lo st U M) : RI A W w br nq nk np nh nr C B F t (wCell s p v) c j a lo st U (sI M 84 w p v) := by
  have hf : Fr SHp M (sI M 84 w p v) := Fr.wIa rfl rfl (Fr.rf _ _)
  have hf4 : Fr (19342813113834066795298816) M (sI M 84 w p v) := Fr.wIa rfl rfl (Fr.rf _ _)
  have row : ∀ f i j, f ≠ 84 → mI (sI M 84 w p v) f i j = mI M f i j := fun f i j hf => by rw [mI_sI, if_neg (fun z => hf z.1)]
  refine h.hp hf ?_ (h.1.1.2.2.1.2.fr hf4 rfl)
  obtain ⟨a1, ⟨b1, b2'⟩, c, d, e, l, m, ⟨g1, g2⟩, g⟩ := h.1.1.2.2.1.1
  refine ⟨a1, ⟨(row 6 _ _ (by omega)).trans b1, (row 6 _ _ (by omega)).trans b2'⟩, fun r hr => (row 512 _ _ (by omega)).trans (c r hr), fun r hr => ?_, fun i hi => ?_, l, m, ⟨(row 6 _ _ (by omega)).trans g1, (row 6 _ _ (by omega)).trans g2⟩, g⟩
  · have := d r hr
    unfold rO at this ⊢
    rw [row 79 _ _ (by omega), row 80 _ _ (by omega), row 81 _ _ (by omega), row 301 _ _ (by omega), row 301 _ _ (by omega)]
    exact this
  · show mI _ 84 w i = up1 (zH s).2.2.2.2.1 p v i
    rw [mI_sI]
    by_cases ei : i = p
    · rw [if_pos ⟨rfl, rfl, ei⟩, ei, up1_s]
    · rw [if_neg (fun z => ei z.2.2), up1_o ei]; exact e i hi
/-- a fixed field -/
theorem RI.fix (hK : KB w nq nk np nh nr) (h : RI A W w br nq nk np nh nr C B F t s c j a lo st U M) (h1 : q.1 < W.length) (h2 : q.2 < (gc W q.1).2.2.2.2.1.length) : RI A W w br nq nk np nh nr C B F t (yS s (up1 (zS s) q.1 (up1 (zS s q.1) q.2 v))) c j a lo st U (sI M 54 w (foff W q.1 + q.2) v) := by
  refine ⟨h.1.s54 hK (fun c' f' hc hf h0 => ?_), ⟨?_, ?_⟩, h.2.2⟩
  · rw [mI_sI]
    show _ = up1 (zS s) q.1 (up1 (zS s q.1) q.2 v) c' f'
    by_cases e : foff W c' + f' = foff W q.1 + q.2
    · obtain ⟨e1, e2⟩ := foff_ne hc h1 hf h2 e
      rw [if_pos ⟨rfl, rfl, e⟩, e1, e2, up1_s, up1_s]
    · rw [if_neg (fun z => e z.2.2), h.1.1.2.1.2 c' f' hc hf h0]
      by_cases e1 : c' = q.1
      · rw [e1, up1_s]
        by_cases e2 : f' = q.2
        · exact absurd (by rw [e1, e2]) e
        · rw [up1_o e2]
      · rw [up1_o e1]
  · rw [mI_sI, if_neg (fun z => absurd z.1 (by decide))]; exact h.2.1.1
  · rw [mI_sI, if_neg (fun z => absurd z.1 (by decide))]; exact h.2.1.2
theorem ref_n (hH : HO W s) (hv : vRf s r) (h0 : r ≠ 0) (ht : thr s r.toNatClampNeg = true) : r = Int32.ofNat r.toNatClampNeg ∧ r.toNatClampNeg ≤ 800 := by
  obtain ⟨n, e, en, hn⟩ := hv.c h0
  rw [en] at ht ⊢
  refine ⟨e, ?_⟩
  rcases hn with z | z
  · exact z.1
  · rw [hH.1.1.2 n (by omega)] at ht; cases ht
/-- an object with a field, and it is there -/
theorem obj_th (hW : WO W) (hG : GL W s) {C : List Ins} {κ : Kd} {v : Vl} (hv : cv W s c C κ v) (hf : wOne W (0, (2, iK i)) κ = 0) (h0 : v.1 ≠ 0) (hq : Fq W s i q) (ho : isFo i.1) (h48 : i.1 < 48) : thr s v.1.toNatClampNeg = true ∧ vRf s v.1 := by
  obtain ⟨d, hd, hl, hfl, h1, -⟩ := hq.2.1 ho
  obtain ⟨hi, hnf⟩ := h1 h48
  have hdl := fnd_lt hd
  obtain ⟨f1, f2, -, f4⟩ := fldW_ok hdl hfl
  have hup := (fldW_up hW.1 hG.1.1 hG.1.2.2 hdl hl hfl).2.resolve_right (by rw [hnf]; decide)
  have h21 : 21 ≤ q.1 := Classical.byContradiction (fun z => by rw [hW.1.nof (by omega)] at f2; exact absurd f2 (by simp))
  have h2 := hv.fit hW.1 (wOne_fit hf (show ¬ (2 : Int) = 0 by decide))
  obtain ⟨hb, hr⟩ := h2.1.2.2.2.1 rfl
  obtain ⟨d', hd', hr⟩ := hr.resolve_left h0
  have hd'' : fnd W (iK i) = some d' := hd'
  rw [hd] at hd''; cases hd''
  have : ∃ e, clR s v.1 = some e ∧ PB W e d := by
    rcases hr with z | z | z
    · rcases pb_face hW.1 (Or.inl z) hup with y | y
      · rw [← y, hnf] at z; cases z
      · omega
    · rcases pb_face hW.1 (Or.inr z) hup with y | y <;> omega
    · exact z
  obtain ⟨e, he, hpe⟩ := this
  obtain ⟨⟨hel, hle⟩, hcase⟩ := clR_lk hW.1 hG (hv.2 hb) h0 he
  have hpq := hpe.trans hup
  rcases hcase with z | ⟨n, -, en, ht, hob⟩
  · have := hW.1.pb z hpq; omega
  · rw [en]; exact ⟨ht, hv.2 hb⟩
/-- what a member of a class in the works says of a field -/
theorem RI.fld (hA : nA A) (h : RI A W w br nq nk np nh nr C B F t s c j a lo st U M) (h1 : q.1 < W.length) (h2 : q.2 < (gc W q.1).2.2.2.2.1.length) (hty : tyOk (gfl (gc W q.1) q.2).2.1) : (foff W q.1 + q.2 < 240 ∧ mL M 50 w = 240 ∧ mL M 53 w = 240 ∧ mL M 54 w = 240) ∧ (mI M 50 w (foff W q.1 + q.2) = 0 ↔ (gfl (gc W q.1) q.2).2.1.1 = 0) := by
  obtain ⟨⟨-, ⟨l1, l2, l3, l4, l5, l6, l7⟩, -⟩, fl2, fl3⟩ := h.1.1.1.1.1.1.2.1
  obtain ⟨g1, g2⟩ := gF1_at h1 h2
  have h51 := h.1.1.l5
  have hfo := foff_le (W := W) (fun c hc => ⟨(fl2 c hc).2.1, (fl2 c hc).2.2⟩) W.length (Nat.le_refl _)
  rw [foff_all] at hfo
  obtain ⟨-, ⟨k1, k2⟩, -⟩ := fl3 _ g1
  rw [g2] at k1 k2
  refine ⟨⟨by omega, l2, l6, l7⟩, ?_⟩
  rw [k1, kC_num hty k2 hA.1]
  constructor
  · intro z; rw [z]
  · intro z
    rcases hty with y | y | y
    · exact y
    · rw [y] at z; exact absurd z (by decide)
    · rw [y] at z; exact absurd z (by decide)
theorem Fq.ty (hA : At W s t c j a lo st U i) (hq : Fq W s i q) (ho : isFo i.1) : q.1 < W.length ∧ q.2 < (gc W q.1).2.2.2.2.1.length ∧ tyOk (gfl (gc W q.1) q.2).2.1 ∧ (zL s).1 q.1 = 1 := by
  obtain ⟨-, -, -, -, hwf⟩ := hA.in
  have hty : tyOk (iR i) := hwf.2.1.2.2.2.2.2.2 ho
  obtain ⟨d, hd, hl, hfl, -, h48⟩ := hq.2.1 ho
  obtain ⟨f1, f2, -, f4⟩ := fldW_ok (fnd_lt hd) hfl
  have hG := hA.1.2.1.1.1
  have hu := (fldW_up hA.1.1.1 hG.1.1 hG.1.2.2 (fnd_lt hd) hl hfl).1
  exact ⟨f1, f2, by rw [f4]; exact hty, hu⟩
end
