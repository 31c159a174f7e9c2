/-! the works' writer: write -/
section
variable {A : List Nm} {W : List Cls} {w c : Nat} {br : Int32} {nq nk np nh nr : Nat} {q : LkS} {M M' : Mem} {Q : Int32 → Mem → Prop} {p p0 : Pen}
theorem c_write (hA : A.length ≤ 200000) (hK : KB w nq nk np nh nr) (h51 : W.length ≤ 51) (hc : c < W.length) (hx : ∀ m ∈ (gc W c).2.2.2.2.2, wfM m) (hty : ∀ f, f < (gc W c).2.2.2.2.1.length → tyOk (gfl (gc W c) f).2.1) (hp : (gc W c).2.1 ≠ []) (hLK : LKw A W w br nq nk np nh nr q M) (hC : CNm A M) (hB : Base A) (l96 : mL M 96 0 = 81) (l410 : mL M 410 0 = 26000) (hbt : ∃ f t : Bool, mI M 8 0 2 = b2 f ∧ mI M 8 0 3 = b2 t) (hl : ∀ g, (pnC (gc W c) ([], g)).1.length ≤ LPg) (hQ : ∀ g M', cP (pnC (gc W c) ([], g)) M' → Fr (21915256497693119885080880507378185301285428407389857926155397960712077388218153025410336344422152019929098551867238338691776283954412922270284332977720545904169368949067651934050907462126168168128270168939163332771385354364421667281591754033509587806134693890226114826225629636726712648707057115610631676715439215748182289087852735169108051462209612957447147628978893046071237954298265523642954799562827029885939085455466611470766534777660623924203400376470147174619978124755943135801531742598321364722300207111975521749242381475636180136571893929419701090527044578388665880910449445090981956840237417980748758842883678612394088238910914890280266529454089632299845305809262672258172057708821561054733723587864155471077138190573025549036092800121918366992898859618209396183468035014656) M M' → Q (Int32.ofNat (pnC (gc W c) ([], g)).1.length) M') : w_Writer_write 0 w (Int32.ofNat c) Q M := by
  obtain ⟨f0, t0, eb1, eb2⟩ := hbt
  unfold w_Writer_write
  have f00 : Fr (21915256497693119885080880507378185301285428407389857926155397960712077388218153025410336344422152019929098551867238338691776283954412922270284332977720545904169368949067651934050907462126168168128270168939163332771385354364421667281591754033509587806134693890226114826225629636726712648707057115610631676715439215748182289087852735169108051462209612957447147628978893046071237954298265523642954799562827029885939085455466611470766534777660623924203400376470147174619978124755943135801531742598321364722300207111975521749242381475636180136571893929419701090527044578388665880910449445090981956840237417980748758842883678612394088238910914890280266529454089632299845305809262672258172057708821561054733723587864155471077138190573025549036092800121918366992898859618209396183468035014656) M (sI (sR M 8 0 5 (some (5, w))) 8 0 1 0) := Fr.wI rfl (Fr.wR rfl (Fr.rf _ _))
  have hW : KWr A W w br nq nk np nh nr q (sI (sR M 8 0 5 (some (5, w))) 8 0 1 0) := ⟨(hLK.fr f00).1, hC.fr f00, hB, rfl⟩
  have h : cP ([], f0 || t0) (sI (sR M 8 0 5 (some (5, w))) 8 0 1 0) := ⟨⟨l410, rfl, fun i hi => absurd hi (by show ¬ i < 0; omega)⟩, f0, t0, eb1, eb2, rfl⟩
  have l96' : mL (sI (sR M 8 0 5 (some (5, w))) 8 0 1 0) 96 0 = 81 := l96
  have hQ := hQ (f0 || t0)
  have hl := hl (f0 || t0)
  generalize sI (sR M 8 0 5 (some (5, w))) 8 0 1 0 = M0 at f00 hW h l96' ⊢
  generalize (f0 || t0) = g0 at h hQ hl
  obtain ⟨⟨⟨-, l36, -⟩, e36⟩, ⟨l37, l38, l39, l40⟩, hcl⟩ := hW.1.1.1.1
  obtain ⟨e36, m36⟩ := e36 c hc
  obtain ⟨⟨e37, m37, -⟩, -, e40⟩ := hcl c hc
  have m37 := m37.resolve_left hp
  have e37 : mI M0 37 w c = nc A (gc W c).2.1 := by rw [e37]; unfold pcC; rw [if_neg hp]
  have lH : (pnHe (gc W c) ([], g0)).1.length ≤ LPg := by
    refine Nat.le_trans ?_ hl
    unfold pnC
    exact Nat.le_trans (pnFc_mono (i := 0) (Nat.zero_le _)) (Nat.le_trans pnE_le (Nat.le_trans (pnFds_mono (i := 0) (Nat.zero_le _)) (Nat.le_trans (pnMs_mono (i := 0) (Nat.zero_le _)) (Nat.le_trans pnL_le (Nat.le_trans pnW_le pnE_le)))))
  have lH' := lH
  unfold pnHe at lH'
  have y1 := Nat.le_trans pnW_le lH'
  have y2 := Nat.le_trans pnS_le y1
  have y3 := Nat.le_trans pnW_le y2
  have y4 := Nat.le_trans pnW_le y3
  have y5 := Nat.le_trans pnF_le y4
  have v51 : ∀ {g : Nat} {M1 : Mem}, Fr SPn M0 M1 → SPn.testBit (5000 + g) = false → mL M0 g w = 51 → vp_in (Int32.ofNat c) (mL M1 g w) := fun f1 z e => by
    rw [f1.L z w, e]; exact (vp_oN (by omega)).mpr (by omega)
  have R : ∀ M1, Fr SPn M0 M1 → mR M1 8 0 5 = some (5, w) := fun M1 f1 => (hW.fr f1).2.2.2
  refine c_pl (n := 0) (by omega) h y5 (fun M1 h1 f1 => ?_)
  refine ⟨w, R M1 f1, v51 f1 rfl l40, ?_⟩
  rw [oN_tnc (k := c) (by omega), (f1.Ia rfl rfl w c).trans e40]
  refine c_pf (k1 := 69) (k2 := 70) (k3 := 71) (k4 := 0) (hW.fr f1).2.1 h1 (hB.at (by decide +kernel)) (hB.at (by decide +kernel)) (hB.at (by decide +kernel)) (hB.at (by decide +kernel)) y4 (fun M2 h2 f2 => ?_)
  have f2 := f1.trans f2
  refine c_pw (k := 62) (hW.fr f2).2.1 h2 (hB.at (by decide +kernel)) y3 (fun M3 h3 f3 => ?_)
  have f3 := f2.trans f3
  refine ⟨w, R M3 f3, v51 f3 rfl l36, ?_⟩
  rw [(f3.Ia rfl rfl w c).trans e36]
  refine c_pw (hW.fr f3).2.1 h3 (idx_at m36) y2 (fun M4 h4 f4 => ?_)
  have f4 := f3.trans f4
  refine c_ps h4 y1 (fun M5 h5 f5 => ?_)
  have f5 := f4.trans f5
  refine ⟨w, R M5 f5, v51 f5 rfl l37, ?_⟩
  rw [(f5.Ia rfl rfl w c).trans e37]
  refine c_pw (hW.fr f5).2.1 h5 (idx_at m37) lH' (fun M6 h6 f6 => ⟨(gc W c).2.2.1.length + 1, ?_⟩)
  have f6 := f5.trans f6
  exact c_pw75 hA hK h51 hc hx hty hl _ 0 M6 (Nat.zero_le _) (by omega) (hW.fr f6) ((f6.L rfl 0).trans l96') h6 (fun M7 h7 f7 => hQ M7 h7 ((f00.trans (f6.sub (by rfl))).trans (f7.sub (by rfl))))
end
