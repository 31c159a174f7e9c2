/-! B: linking in the works: where fields of objects lie -/
/-- what linking, starting and running may change in a world's rows -/
def bL (f : Nat) : Nat := if f = 45 ∨ f = 46 ∨ f = 47 ∨ f = 48 ∨ f = 53 ∨ f = 54 then 0 else 10000000
theorem bL_big {f : Nat} (h : ¬ (f = 45 ∨ f = 46 ∨ f = 47 ∨ f = 48 ∨ f = 53 ∨ f = 54)) : bL f = 10000000 := if_neg h
theorem cFl.lw {A : List Nm} {W : List Cls} {w : Nat} {M M' : Mem} (h : cFl A W w M) (hx : Lo w bL M M') (e17 : mI M' 5 w 17 = mI M 5 w 17) (hf : (allF W).length ≤ 10000000 ∧ W.length ≤ 10000000) : cFl A W w M' := by
  obtain ⟨⟨a1, ⟨b1, b2', b3, b4, b5, b6, b7⟩, a3, a4⟩, d, g⟩ := h
  refine ⟨⟨e17.trans a1, ⟨((hx.1 49 rfl).2 w).trans b1, ((hx.1 50 rfl).2 w).trans b2', ((hx.1 51 rfl).2 w).trans b3, ((hx.1 52 rfl).2 w).trans b4, ((hx.1 511 rfl).2 w).trans b5, ((hx.1 53 rfl).2 w).trans b6, ((hx.1 54 rfl).2 w).trans b7⟩, ((hx.1 41 rfl).2 w).trans a3, ((hx.1 42 rfl).2 w).trans a4⟩, fun j hj => ?_, fun i hi => ?_⟩
  · rw [(hx.1 41 rfl).1 w j (Or.inr (by rw [bL_big (by omega)]; omega)), (hx.1 42 rfl).1 w j (Or.inr (by rw [bL_big (by omega)]; omega))]; exact d j hj
  · rw [(hx.1 49 rfl).1 w i (Or.inr (by rw [bL_big (by omega)]; omega)), (hx.1 50 rfl).1 w i (Or.inr (by rw [bL_big (by omega)]; omega)), (hx.1 51 rfl).1 w i (Or.inr (by rw [bL_big (by omega)]; omega)), (hx.1 52 rfl).1 w i (Or.inr (by rw [bL_big (by omega)]; omega)), (hx.1 511 rfl).1 w i (Or.inr (by rw [bL_big (by omega)]; omega))]; exact g i hi
theorem CWx.lw {A : List Nm} {W : List Cls} {w : Nat} {br : Int32} {nq nk np nh nr : Nat} {M M' : Mem} (h : CWx A W w br nq nk np nh nr M) (hx : Lo w bL M M') (hK : KB w nq nk np nh nr) (h5 : ∀ k, k < 56 → mI M' 5 w k = mI M 5 w k) : CWx A W w br nq nk np nh nr M' := by
  have h51 : W.length ≤ 51 := h.1.1.1.1.2.2.1
  have hfo := foff_le (fun c hc => (h.1.2.1.2.1 c hc).2) W.length (Nat.le_refl _)
  rw [foff_all] at hfo
  have hall : ∀ d, d < W.length → (gc W d).2.2.2.2.2.length ≤ 12 ∧ (d < 21 → (gc W d).2.2.2.2.2.length = 1) := fun d hd => (h.2.1.2.1 d hd).2
  have hmo := moff_le hall W.length (Nat.le_refl _)
  rw [moff_all] at hmo
  have hL := L_le w
  unfold KB at hK
  obtain ⟨⟨c1, c2, c3⟩, m, ⟨k1, k2, k3, k4, k5, k6⟩, r, e⟩ := h
  refine ⟨⟨c1.lo hx (h5 2 (by omega)) (fun f a c => ?_), c2.lw hx (h5 17 (by omega)) (by omega), (h5 1 (by omega)).trans c3⟩, m.lo hx ?_ ?_ ⟨fun f a b => ?_, ?_, fun f a b => ?_, ?_, ?_, ?_, ?_, ?_⟩, ⟨(h5 26 (by omega)).trans k1, (h5 39 (by omega)).trans k2, (h5 47 (by omega)).trans k3, (h5 49 (by omega)).trans k4, (h5 51 (by omega)).trans k5, (h5 53 (by omega)).trans k6⟩, r.lo hx, e⟩
  · rw [bL_big (by omega)]; split <;> omega
  all_goals (try rw [bL_big (by omega)])
  all_goals omega
/-! sizes of objects -/
def instF (l : List Fld) : Nat := (l.filter (fun f => decide (f.2.2.1 &&& 1 = 0))).length
def oszN (W : List Cls) : Nat → Nat → Nat
  | 0, _ => 0
  | n + 1, c => (match upW W c with | none => 0 | some p => oszN W n p) + instF (gc W c).2.2.2.2.1
def osz (W : List Cls) (c : Nat) : Nat := oszN W 52 c
def oszU (W : List Cls) (c : Nat) : Nat := match upW W c with | none => 0 | some p => osz W p
noncomputable def mu (W : List Cls) (c : Nat) : Nat := if c = 0 then 0 else rk W c
theorem rk_pos {W : List Cls} {c : Nat} (h : c < W.length) : 0 < rk W c := List.length_pos_of_mem (mem_rkL.mpr ⟨h, Reach.rf _ _⟩)
theorem oszN_eq {W : List Cls} {L : Nat → Int32} (hI : LInv W L) : ∀ n m c, c < W.length → (c = 0 ∨ L c = 1) → mu W c < n → mu W c < m → oszN W n c = oszN W m c := by
  intro n
  induction n with
  | zero => intro m c _ _ h; exact absurd h (by omega)
  | succ n ih =>
    intro m c hc hl hn hm
    obtain ⟨m', em⟩ : ∃ m', m = m' + 1 := ⟨m - 1, by omega⟩
    subst em
    show (match upW W c with | none => 0 | some p => oszN W n p) + _ = (match upW W c with | none => 0 | some p => oszN W m' p) + _
    by_cases c0 : c = 0
    · have : upW W c = none := by unfold upW; rw [if_pos c0]
      rw [this]
    · obtain ⟨e, eu, hel, he⟩ := hI.up hc (hl.resolve_left c0) c0
      rw [eu]
      have hmu : mu W e < mu W c := by
        unfold mu
        rw [if_neg c0]
        by_cases e0 : e = 0
        · rw [if_pos e0]; exact rk_pos hc
        · rw [if_neg e0]; exact (he.resolve_left e0).2
      show oszN W n e + _ = oszN W m' e + _
      rw [ih m' e hel (he.elim Or.inl (fun z => Or.inr z.1)) (by omega) (by omega)]
/-- what objects of a class have above it, and of it -/
theorem osz_up {W : List Cls} {L : Nat → Int32} (hI : LInv W L) {c p : Nat} (hp : upW W c = some p) (hpl : p < W.length) (hl : p = 0 ∨ L p = 1) (hm : mu W p < 51) : osz W c = oszU W c + instF (gc W c).2.2.2.2.1 := by
  unfold osz oszU
  show (match upW W c with | none => 0 | some p => oszN W 51 p) + _ = _
  rw [hp]
  show oszN W 51 p + _ = osz W p + _
  unfold osz
  rw [oszN_eq hI 51 52 p hpl hl hm (by omega)]
/-- where fields lie, of classes that are linked -/
def LaidC (W : List Cls) (w c : Nat) (M : Mem) : Prop := mI M 47 w c = Int32.ofNat (oszU W c) ∧ mI M 48 w c = Int32.ofNat (osz W c) ∧ ∀ f, f < (gc W c).2.2.2.2.1.length → (gfl (gc W c) f).2.2.1 &&& 1 = 0 → mI M 53 w (foff W c + f) = Int32.ofNat (oszU W c + instF ((gc W c).2.2.2.2.1.take f))
def Laid (W : List Cls) (L : Nat → Int32) (w : Nat) (M : Mem) : Prop := ∀ c, c < W.length → L c = 1 → LaidC W w c M
theorem instF_take {l : List Fld} {j : Nat} (h : j < l.length) : instF (l.take (j + 1)) = instF (l.take j) + if (l.getD j ([], (0, []), 0, 0, false)).2.2.1 &&& 1 = 0 then 1 else 0 := by
  unfold instF
  rw [List.take_add_one, List.getElem?_eq_getElem h, List.filter_append, List.length_append]
  congr 1
  rw [show l.getD j ([], (0, []), 0, 0, false) = l[j] by rw [List.getD_eq_getElem?_getD, List.getElem?_eq_getElem h]; rfl]
  show (List.filter _ [l[j]]).length = _
  by_cases e : l[j].2.2.1 &&& 1 = 0
  · rw [if_pos e, List.filter_cons, if_pos (decide_eq_true e)]; rfl
  · rw [if_neg e, List.filter_cons, if_neg (fun z => e (of_decide_eq_true z))]; rfl
section
variable {A : List Nm} {W : List Cls} {w c p : Nat} {br : Int32} {nq nk np nh nr : Nat} {M : Mem} {Q : Mem → Prop}
theorem c_wlay {b : Nat} (h : CWx A W w br nq nk np nh nr M) (hK : KB w nq nk np nh nr) (hc : c < W.length) (hpl : p < W.length) (h48 : mI M 48 w p = Int32.ofNat b) (hQ : ∀ M', Lo w bL M M' → Fr (9429411719806976) M M' → mI M' 47 w c = Int32.ofNat b → mI M' 48 w c = Int32.ofNat (b + instF (gc W c).2.2.2.2.1) → (∀ f, f < (gc W c).2.2.2.2.1.length → (gfl (gc W c) f).2.2.1 &&& 1 = 0 → mI M' 53 w (foff W c + f) = Int32.ofNat (b + instF ((gc W c).2.2.2.2.1.take f))) → (∀ d, d ≠ c → mI M' 47 w d = mI M 47 w d ∧ mI M' 48 w d = mI M 48 w d) → (∀ j, j < foff W c ∨ foff W c + (gc W c).2.2.2.2.1.length ≤ j → mI M' 53 w j = mI M 53 w j) → Q M') : w_World_lay w (Int32.ofNat c) (Int32.ofNat p) Q M := by
  have h51 : W.length ≤ 51 := h.1.1.1.1.2.2.1
  have hfl := h.1.2.1
  obtain ⟨⟨e41, e42⟩, h8, -⟩ := hfl.2.1 c hc
  have l47 : mL M 47 w = 51 := h.2.2.2.1.2.2.2.2.2.2 47 (by omega) (by omega)
  have l48 : mL M 48 w = 51 := h.2.2.2.1.2.2.2.2.2.2 48 (by omega) (by omega)
  obtain ⟨⟨-, ⟨-, -, l51, -, -, l53, -⟩, l41, l42⟩, -, hg⟩ := hfl
  have hfo := foff_le (fun c hc => (h.1.2.1.2.1 c hc).2) (c + 1) hc
  have hfs := foff_succ (W := W) (n := c) hc
  have loop : ∀ n j M1, Lo w bL M M1 → Fr (9429411719806976) M M1 → mI M1 47 w c = Int32.ofNat b → (∀ f, f < j → (gfl (gc W c) f).2.2.1 &&& 1 = 0 → mI M1 53 w (foff W c + f) = Int32.ofNat (b + instF ((gc W c).2.2.2.2.1.take f))) → (∀ d, d ≠ c → mI M1 47 w d = mI M 47 w d) → (∀ d, mI M1 48 w d = mI M 48 w d) → (∀ j', j' < foff W c ∨ foff W c + (gc W c).2.2.2.2.1.length ≤ j' → mI M1 53 w j' = mI M 53 w j') → (gc W c).2.2.2.2.1.length - j < n → j ≤ (gc W c).2.2.2.2.1.length → w_World_lay_L27 w Q n (Int32.ofNat c) (Int32.ofNat (b + instF ((gc W c).2.2.2.2.1.take j))) (Int32.ofNat (foff W c + j)) M1 := by
    intro n
    induction n with
    | zero => intro j M1 _ _ _ _ _ _ _ hn; exact absurd hn (by omega)
    | succ n ih =>
      intro j M1 hlo hf i47 i53 o47 o48 o53 hn hj
      unfold w_World_lay_L27 w_World_lay_j71
      rw [oN_tnc (k := c) (by omega), hf.Ia (f := 41) rfl rfl, hf.Ia (f := 42) rfl rfl, e41, e42, oN_add, hf.L (f := 41) rfl, hf.L (f := 42) rfl, l41, l42]
      refine ⟨(vp_oN (by omega)).mpr (by omega), (vp_oN (by omega)).mpr (by omega), ?_⟩
      by_cases cj : (gc W c).2.2.2.2.1.length ≤ j
      · refine itp (le_oN (by omega) (by omega)) ⟨by rw [hf.L (f := 48) rfl, l48]; exact (vp_oN (by omega)).mpr (by omega), ?_⟩
        rw [List.take_of_length_le cj]
        refine hQ _ (hlo.w (Nat.zero_le _)) (Fr.wIa rfl rfl hf) ?_ ?_ (fun f hf' hs => ?_) (fun d hd => ⟨?_, ?_⟩) (fun j' hj' => ?_)
        · rw [mI_sI, if_neg (fun z => absurd z.1 (by decide))]; exact i47
        · rw [mI_sI, if_pos ⟨rfl, rfl, rfl⟩]
        · rw [mI_sI, if_neg (fun z => absurd z.1 (by decide))]; exact i53 f (by omega) hs
        · rw [mI_sI, if_neg (fun z => absurd z.1 (by decide))]; exact o47 d hd
        · rw [mI_sI, if_neg (fun z => hd z.2.2)]; exact o48 d
        · rw [mI_sI, if_neg (fun z => absurd z.1 (by decide))]; exact o53 j' hj'
      have hjl : j < (gc W c).2.2.2.2.1.length := by omega
      obtain ⟨g1, g2⟩ := gF1_at hc hjl
      have e51 := (hg (foff W c + j) g1).2.2.1
      rw [g2] at e51
      refine itn (nle_oN (by omega) (by omega)) ?_
      rw [oN_tnc (k := foff W c + j) (by omega), hf.Ia (f := 51) rfl rfl, e51, hf.L (f := 51) rfl, l51, show Int32.ofNat (foff W c + j) + (1 : Int32) = Int32.ofNat (foff W c + (j + 1)) from oN_add (foff W c + j) 1]
      refine ⟨(vp_oN (by omega)).mpr (by omega), ?_⟩
      have hit := instF_take hjl
      have egf : (gc W c).2.2.2.2.1.getD j ([], (0, []), 0, 0, false) = gfl (gc W c) j := rfl
      rw [egf] at hit
      by_cases cs : (gfl (gc W c) j).2.2.1 &&& 1 = 0
      · rw [if_pos cs] at hit
        refine itp cs ⟨by rw [hf.L (f := 53) rfl, l53]; exact (vp_oN (by omega)).mpr (by omega), ?_⟩
        rw [show Int32.ofNat (b + instF ((gc W c).2.2.2.2.1.take j)) + (1 : Int32) = Int32.ofNat (b + instF ((gc W c).2.2.2.2.1.take (j + 1))) by rw [hit]; exact oN_add _ 1]
        refine ih (j + 1) _ (hlo.w (Nat.zero_le _)) (Fr.wIa rfl rfl hf) ?_ (fun f hf' hs => ?_) (fun d hd => ?_) (fun d => ?_) (fun j' hj' => ?_) (by omega) (by omega)
        · rw [mI_sI, if_neg (fun z => absurd z.1 (by decide))]; exact i47
        · rw [mI_sI]
          by_cases ef : f = j
          · rw [if_pos ⟨rfl, rfl, by rw [ef]⟩, ef]
          · rw [if_neg (fun z => ef (by omega))]; exact i53 f (by omega) hs
        · rw [mI_sI, if_neg (fun z => absurd z.1 (by decide))]; exact o47 d hd
        · rw [mI_sI, if_neg (fun z => absurd z.1 (by decide))]; exact o48 d
        · rw [mI_sI, if_neg (fun z => by omega)]; exact o53 j' hj'
      · rw [if_neg cs] at hit
        replace hit : instF ((gc W c).2.2.2.2.1.take (j + 1)) = instF ((gc W c).2.2.2.2.1.take j) := hit
        rw [← hit]
        refine itn cs (ih (j + 1) M1 hlo hf i47 (fun f hf' hs => ?_) o47 o48 o53 (by omega) (by omega))
        by_cases ef : f = j
        · rw [ef] at hs; exact absurd hs cs
        · exact i53 f (by omega) hs
  unfold w_World_lay
  rw [oN_tnc (k := c) (by omega), oN_tnc (k := p) (by omega), h48]
  refine ⟨by rw [l48]; exact (vp_oN (by omega)).mpr (by omega), by rw [l47]; exact (vp_oN (by omega)).mpr (by omega), by show vp_in _ (mL M 47 w); rw [l47]; exact (vp_oN (by omega)).mpr (by omega), _, rfl, by show vp_in _ (mL M 41 w); rw [l41]; exact (vp_oN (by omega)).mpr (by omega), _, rfl, (gc W c).2.2.2.2.1.length + 1, ?_⟩
  rw [mI_sI, if_pos ⟨rfl, rfl, rfl⟩, mI_sI, if_neg (fun z => absurd z.1 (by decide)), e41]
  refine loop _ 0 _ ((Lo.rf w bL M).w (Nat.zero_le _)) (Fr.wIa rfl rfl (Fr.rf _ _)) (by rw [mI_sI, if_pos ⟨rfl, rfl, rfl⟩]) (fun f hf => absurd hf (by omega)) (fun d hd => by rw [mI_sI, if_neg (fun z => hd z.2.2)]) (fun d => by rw [mI_sI, if_neg (fun z => absurd z.1 (by decide))]) (fun j' _ => by rw [mI_sI, if_neg (fun z => absurd z.1 (by decide))]) (by omega) (by omega)
end
