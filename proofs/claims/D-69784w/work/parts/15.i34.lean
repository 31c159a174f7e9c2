/-! the works' writer: a method -/
noncomputable def pnM (x : Mth) (p : Pen) : Pen :=
  let p := pnE (pnT x.2.1 x.2.2.1 (pnW x.1 (pnF x.2.2.2.1 (wA 52) (wA 69) (wA 72) (wA 70) (pnW (wA 64) (pnL 1 p)))))
  if x.2.2.2.1 &&& 8 = 0 then pnHs x (hs x).length (pnEl x (pnCs x (co x).length (pnE (pnN x.2.2.2.2.2.1 (pnN x.2.2.2.2.1 (pnW (wA 65) (pnL 2 p))))))) else p
abbrev SPm : Nat := (6669860673210949530242007110941186830825999950075174151438599379347153987718568312081406713519785397369725646220463842210540608160038715473564796993219296579529807941020589719058971836299268572908603964459745362147812933936997898737875751227589874549693167705720991468851278585090738632215191296055409640739481500445098957548476919399293754792846403943570871017515315274891246333916863420239160156388686487356590156442968099143276771454070624672583643592838740444449558559708330519591770530356010850132873976077557767488899855231715359172000141630692952505812578784726985268103180265897255378168767909820227883126095032621163418159668539314433124595920809888093096727072496287658266390594602098866615389774989699405728586531807528238364198944941979914656232082529283981403794255642624)
theorem pnT_le {ks : List Kd} {res : Kd} {p : Pen} : p.1.length ≤ (pnT ks res p).1.length := Nat.le_trans pnS_le (Nat.le_trans pnKs_le (Nat.le_trans pnS_le pnK_le))
theorem pnCs_le {x : Mth} {k : Nat} {p : Pen} : p.1.length ≤ (pnCs x k p).1.length := pnCs_mono (i := 0) (Nat.zero_le _)
theorem pnHs_le {x : Mth} {k : Nat} {p : Pen} : p.1.length ≤ (pnHs x k p).1.length := pnHs_mono (i := 0) (Nat.zero_le _)
section
variable {A : List Nm} {W : List Cls} {w m q0 h0 : Nat} {br : Int32} {nq nk np nh nr : Nat} {q : LkS} {M M' : Mem} {Q : Mem → Prop} {p p0 : Pen} {x : Mth} {i : Ins}
theorem KWr.fm (h : KWr A W w br nq nk np nh nr q M) (hf : Fr SPm M M') : KWr A W w br nq nk np nh nr q M' := ⟨(h.1.fr hf).1, h.2.1.fr hf, h.2.2.1, (hf.R (f := 8) (k := 5) rfl 0).trans h.2.2.2⟩
theorem c_pmethod {c j : Nat} (hA : A.length ≤ 200000) (hK : KB w nq nk np nh nr) (hW : KWr A W w br nq nk np nh nr q M) (l96 : mL M 96 0 = 81) (hc : c < W.length) (hj : j < (gc W c).2.2.2.2.2.length) (hxx : gmt (gc W c) j = x) (hx : wfM x) (h : cP p M) (hl : (pnM x p).1.length ≤ LPg) (hQ : ∀ M', cP (pnM x p) M' → Fr SPm M M' → Q M') : w_Writer_method 0 (Int32.ofNat (moff W c + j)) Q M := by
  obtain ⟨-, -, m3, m4, -⟩ := hW.1.1.mo (e := 0) hc
  have hLw := L_le w
  have hm : moff W c + j < 381 := by omega
  have L381 : ∀ f, 55 ≤ f → f ≤ 65 → mL M f w = 381 := hW.1.1.2.1.1.2.1
  have l211 : mL M 211 (2 * w + 1) = 2286 := hW.1.1.2.1.1.2.2
  obtain ⟨hH, hC⟩ := hW.1.1.2.1.2.2 c hc j hj
  rw [hxx] at hH hC
  generalize hmm : moff W c + j = m at hm hH hC ⊢
  obtain ⟨-, ⟨e56, m56⟩, e57, ⟨e58, -, e211⟩, ⟨e59, k59, kd59⟩, e60, e61⟩ := hH
  have R : ∀ M1, Fr SPn M M1 → mR M1 8 0 5 = some (5, w) := fun M1 f1 => (hW.fr f1).2.2.2
  have I : ∀ {g : Nat} {M1 : Mem} {v : Int32}, Fr SPn M M1 → Nat.ble 20 g = true → SPn.testBit g = false → mI M g w m = v → mI M1 g w m = v := fun f1 z1 z2 e => (f1.Ia z1 z2 w _).trans e
  have V : ∀ {g : Nat} {M1 : Mem}, 55 ≤ g → g ≤ 65 → SPn.testBit (5000 + g) = false → Fr SPn M M1 → vp_in (Int32.ofNat m) (mL M1 g w) := fun {g M1} z1 z2 z3 f1 => by
    rw [f1.L z3 w, L381 g z1 z2]; exact (vp_oN (by omega)).mpr hm
  have hB := hW.2.2.1
  have hks6 : x.2.1.length ≤ 6 := hx.1.2.2
  unfold pnM at hl hQ
  dsimp only at hl hQ
  have lE : (pnE (pnT x.2.1 x.2.2.1 (pnW x.1 (pnF x.2.2.2.1 (wA 52) (wA 69) (wA 72) (wA 70) (pnW (wA 64) (pnL 1 p)))))).1.length ≤ LPg := by
    by_cases z : x.2.2.2.1 &&& 8 = 0
    · rw [if_pos z] at hl
      exact Nat.le_trans pnL_le (Nat.le_trans pnW_le (Nat.le_trans pnN_le (Nat.le_trans pnN_le (Nat.le_trans pnE_le (Nat.le_trans pnCs_le (Nat.le_trans pnEl_le (Nat.le_trans pnHs_le hl)))))))
    · rw [if_neg z] at hl; exact hl
  have lT := Nat.le_trans pnE_le lE
  have lW := Nat.le_trans pnT_le lT
  have lF := Nat.le_trans pnW_le lW
  have l64 := Nat.le_trans pnF_le lF
  have lL := Nat.le_trans pnW_le l64
  unfold w_Writer_method
  refine c_pl (n := 1) (by omega) h lL (fun M1 h1 f1 => ?_)
  refine c_pw (k := 64) (hW.fr f1).2.1 h1 (hB.at (by decide +kernel)) l64 (fun M2 h2 f2 => ?_)
  have f2 := f1.trans f2
  refine ⟨w, R M2 f2, V (by omega) (by omega) rfl f2, ?_⟩
  rw [oN_tnc (k := m) (by omega), I f2 rfl rfl e57]
  refine c_pf (k1 := 52) (k2 := 69) (k3 := 72) (k4 := 70) (hW.fr f2).2.1 h2 (hB.at (by decide +kernel)) (hB.at (by decide +kernel)) (hB.at (by decide +kernel)) (hB.at (by decide +kernel)) lF (fun M3 h3 f3 => ?_)
  have f3 := f2.trans f3
  refine ⟨w, R M3 f3, V (by omega) (by omega) rfl f3, ?_⟩
  rw [I f3 rfl rfl e56]
  refine c_pw (hW.fr f3).2.1 h3 (idx_at m56) lW (fun M4 h4 f4 => ?_)
  have f4 := f3.trans f4
  refine ⟨w, R M4 f4, w, R M4 f4, V (by omega) (by omega) rfl f4, w, R M4 f4, V (by omega) (by omega) rfl f4, ?_⟩
  rw [I f4 rfl rfl e58, I f4 rfl rfl e59, show (6 : Int32) * Int32.ofNat m = Int32.ofNat (6 * m) from oN_mul 6 _]
  refine c_pt (hW.fr f4).2.1 hB hA hks6 (by omega) h4 ⟨kd_pk kd59, k59⟩ (by rw [f4.L rfl (2 * w + 1), l211]; omega) (fun i hi => ?_) lT (fun M5 h5 f5 => ?_)
  · obtain ⟨u1, u2, u3⟩ := e211 i hi
    exact ⟨(f4.Ia rfl rfl (2 * w + 1) _).trans u1, u2, kd_pk u3⟩
  have f5 := f4.trans f5
  refine c_pe h5 lE (fun M6 h6 f6 => ?_)
  have f6 := f5.trans f6
  refine ⟨w, R M6 f6, V (by omega) (by omega) rfl f6, ?_⟩
  rw [I f6 rfl rfl e57]
  by_cases z : x.2.2.2.1 &&& 8 = 0
  · rw [if_pos z] at hl hQ
    have y1 := Nat.le_trans pnCs_le (Nat.le_trans pnEl_le (Nat.le_trans pnHs_le hl))
    have y2 := Nat.le_trans pnE_le y1
    have y3 := Nat.le_trans pnN_le y2
    have y4 := Nat.le_trans pnN_le y3
    have y5 := Nat.le_trans pnW_le y4
    refine itp z (c_pl (n := 2) (by omega) h6 y5 (fun M7 h7 f7 => ?_))
    have f7 := f6.trans f7
    refine c_pw (k := 65) (hW.fr f7).2.1 h7 (hB.at (by decide +kernel)) y4 (fun M8 h8 f8 => ?_)
    have f8 := f7.trans f8
    refine ⟨w, R M8 f8, V (by omega) (by omega) rfl f8, ?_⟩
    rw [I f8 rfl rfl e60]
    refine c_pn h8 y3 (fun M9 h9 f9 => ?_)
    have f9 := f8.trans f9
    refine ⟨w, R M9 f9, V (by omega) (by omega) rfl f9, ?_⟩
    rw [I f9 rfl rfl e61]
    refine c_pn h9 y2 (fun Ma ha fa => c_pe ha y1 (fun Mb hb fb => ?_))
    have fb := (f9.trans fa).trans fb
    have hWb := hW.fr fb
    obtain ⟨k1, k2, k3, k4, k5, k6⟩ := id hK
    obtain ⟨-, hCb⟩ := hWb.1.1.2.1.2.2 c hc j hj
    rw [hxx, hmm] at hCb
    obtain ⟨q0, h0, ⟨e62, e63, hq0, -, e64, e65, hh0, -⟩, hFi, hFh⟩ := hCb
    have Lb : ∀ f, 55 ≤ f → f ≤ 65 → mL Mb f w = 381 := hWb.1.1.2.1.1.2.1
    have Rb : cRm w Mb := hWb.1.1.2.2.2.1
    have l96b : mL Mb 96 0 = 81 := (fb.L rfl 0).trans l96
    refine c_labels hx (⟨⟨hWb.2.2.2, l96b⟩, ⟨⟨Lb 62 (by omega) (by omega), Lb 63 (by omega) (by omega), Lb 64 (by omega) (by omega), Lb 65 (by omega) (by omega), hm⟩, ⟨by rw [Rb.1 66 (by omega) (by omega)]; exact k1, by rw [Rb.1 67 (by omega) (by omega)]; exact k1, by rw [Rb.1 68 (by omega) (by omega)]; exact k1, by rw [Rb.1 69 (by omega) (by omega)]; exact k1⟩, ⟨by rw [Rb.2.2.1]; exact k3, by rw [Rb.2.2.2.1]; exact k4⟩, by omega, by omega, by omega⟩, ⟨e62, e63, e64, e65, hq0, hh0⟩, fun i hi => ?_, fun i hi => ?_⟩ : LbW w nq np nh m q0 h0 x Mb) (fun Mc fc nc' => ?_)
    · obtain ⟨u1, ⟨pf, u2, u3⟩, u4, -, -, u5, u6⟩ := hFi i hi
      refine ⟨u1, fun cj => ⟨u4 cj, u5 cj⟩, fun ho => ⟨pf, ?_, ?_, (u3 ho).1, (u3 ho).2⟩, u6⟩
      · have u2 := u2.1
        unfold cOp0 at u2
        rw [ho, if_neg (by decide), if_neg (by decide), if_pos rfl] at u2
        exact u2.2.1
      · have u2 := u2.1
        unfold cOp0 at u2
        rw [ho, if_neg (by decide), if_neg (by decide), if_pos rfl] at u2
        rw [u2.2.2]
        show Int32.ofNat (List.map _ _).length = _
        rw [List.length_map]
    · obtain ⟨u1, u2, u3, -⟩ := hFh i hi
      exact ⟨u1, u2, u3⟩
    have hWc := hWb.fm (fc.sub (S' := SPm) (by rfl))
    have fmc : Fr SPm M Mc := (fb.sub (by rfl)).trans (fc.sub (by rfl))
    obtain ⟨-, hCc⟩ := hWc.1.1.2.1.2.2 c hc j hj
    rw [hxx, hmm] at hCc
    obtain ⟨q1, h1', ⟨g62, g63, gq0, -, g64, g65, gh0, -⟩, gFi, gFh⟩ := hCc
    have Lc : ∀ f, 55 ≤ f → f ≤ 65 → mL Mc f w = 381 := hWc.1.1.2.1.1.2.1
    have hbc : cP _ Mc := ⟨⟨(fc.L rfl 0).trans hb.1.1, (fc.I (f := 8) (k := 1) rfl 0).trans hb.1.2.1, fun i hi => (fc.Ia rfl rfl 0 i).trans (hb.1.2.2 i hi)⟩, by
      obtain ⟨-, f, t, t1, t2, t3⟩ := hb
      exact ⟨f, t, (fc.I (f := 8) (k := 2) rfl 0).trans t1, (fc.I (f := 8) (k := 3) rfl 0).trans t2, t3⟩⟩
    refine ⟨w, hWc.2.2.2, by rw [Lc 63 (by omega) (by omega)]; exact (vp_oN (by omega)).mpr hm, (co x).length + 1, ?_⟩
    rw [g63]
    refine c_pm156 (q0 := q1) (h0 := h1') hA hx hK hl _ 0 Mc (Nat.zero_le _) (by show (co x).length - 0 < _; omega) ⟨⟨hWc, ⟨(fc.L rfl 0).trans l96b, fun k hk ht => by rw [nc' k hk, if_pos ht]⟩, hWc.1.1.2.2.2.1⟩, ⟨⟨g62, g63, g64, g65⟩, ⟨Lc 62 (by omega) (by omega), Lc 63 (by omega) (by omega), Lc 64 (by omega) (by omega), Lc 65 (by omega) (by omega)⟩, hm, gq0, gh0⟩, gFi, gFh⟩ (fun k hk ht => by rw [nc' k hk, if_neg ht]) hbc (fun Md hd fd => hQ Md hd (fmc.trans (fd.sub (by rfl))))
  · rw [if_neg z] at hl hQ
    exact itn z (hQ M6 h6 (f6.sub (by rfl)))
end
