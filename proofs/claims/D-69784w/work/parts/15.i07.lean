/-! THE OPERATIONS reach, reached, in the twin: loops -/
section
variable {G : List Sl} {US : UST} {A : List Nm} {S : List Sg} {W : List Cls} {w k c j q n ab : Nat} {br x a b cc : Int32} {nq nl nf nk B F : Nat} {M M' M0 : Mem} {s : Ms} {Q : Int32 → Mem → Prop} {i : Ins} {on : Nat → Bool} {L0 : LkS} {V : RV} {m : Nat × Nat} {z : RV × LkS} {C : Nat → Int32}
theorem ct_rch118 (hW : WO W) (h12 : W12 W) (hNS : NSi W) (h110 : 51 ≤ mL M0 110 0 ∧ mL M0 110 0 < 1000000) (hC : ∀ k, k < W.length → mI M0 137 w k = C k) (h21 : ∀ k, k < 21 → C k = 2) (hc : c < W.length) (hj : j < (gc W c).2.2.2.2.2.length) {k97 : Int32 → Mem → Prop} {v4 : Int32} {R : RV × LkS}
    (hfin : ∀ M', Rt G US A S W w br nq nl nf nk L0 R M0 M' → k97 (v4 + 1) M') :
    ∀ d k z M, (co (gmt (gc W c) j)).length - k < d → k ≤ (co (gmt (gc W c) j)).length → Rt G US A S W w br nq nl nf nk L0 z M0 M → R = rchC br W C c (gmt (gc W c) j) ((co (gmt (gc W c) j)).drop k) z → w_Model_reach_L118 0 Q k97 d v4 (Int32.ofNat (12 * c + j)) (Int32.ofNat k) M := by
  intro d
  induction d with
  | zero => intro k z M h; omega
  | succ d ih =>
    intro k z M hd hk h hR
    have h51 := hW.2.2.2
    have hc12 := (h.1.1.mcn hc).2
    have e45 := h.1.1.r45
    have h80 : (co (gmt (gc W c) j)).length ≤ 80 := by
      obtain ⟨q0, a1, a2, ⟨a3, a4⟩, -⟩ := h.1.1.ms.2.2 c hc j hj
      exact a4
    have e150 : mI M 150 w (12 * c + j) = Int32.ofNat (co (gmt (gc W c) j)).length := by
      obtain ⟨q0, a1, a2, -⟩ := h.1.1.ms.2.2 c hc j hj
      exact a2
    have l150 := h.1.1.ml (f := 150) (by omega) (by omega)
    have l149 := h.1.1.ml (f := 149) (by omega) (by omega)
    unfold w_Model_reach_L118
    rw [oN_tnc (k := 12 * c + j) (by omega)]
    refine ⟨w, e45, by rw [l150]; exact (vp_oN (by omega)).mpr (by omega), ?_⟩
    rw [e150]
    by_cases ck : k = (co (gmt (gc W c) j)).length
    · refine itp (le_oN (by omega) (by omega)) ?_
      rw [ck, List.drop_eq_nil_of_le (Nat.le_refl _)] at hR
      exact hfin M (hR ▸ h)
    · have hkl : k < (co (gmt (gc W c) j)).length := by omega
      obtain ⟨q0, ⟨e149, -⟩, hI, h30, e30, hq39⟩ := h.1.1.insT hW hc hj hkl
      refine itn (nle_oN (by omega) (by omega)) ⟨w, e45, by rw [l149]; exact (vp_oN (by omega)).mpr (by omega), ?_⟩
      rw [e149, oN_add]
      have hdr := List.drop_eq_getElem_cons hkl
      obtain ⟨-, hgin, -⟩ := gin_at hdr
      rw [hdr, ← hgin] at hR
      refine ct_reachFrom hW h12 h110 hC h21 hc hj h hI h30 e30 (hNS c j k hc) (fun M1 h1 => ?_)
      rw [lit32 1, oN_add]
      exact ih (k + 1) _ M1 (by omega) (by omega) h1 hR
theorem ct_rch97 (hW : WO W) (h12 : W12 W) (hNS : NSi W) (h110 : 51 ≤ mL M0 110 0 ∧ mL M0 110 0 < 1000000) (hC : ∀ k, k < W.length → mI M0 137 w k = C k) (h21 : ∀ k, k < 21 → C k = 2) {R : RV × LkS} (hvl : ∀ V, okV W V → V.length ≤ 381)
    (hfin : ∀ M', Rt G US A S W w br nq nl nf nk L0 R M0 M' → Q (Int32.ofNat R.1.length) M') :
    ∀ d k z M, 382 - k < d → k + d ≤ 400 → Rt G US A S W w br nq nl nf nk L0 z M0 M → R = rchN br W C d k z → w_Model_reach_L97 0 Q d (Int32.ofNat k) M := by
  intro d
  induction d with
  | zero => intro k z M h; omega
  | succ d ih =>
    intro k z M hd hkd h hR
    have hvl' := hvl _ h.2.2.2.1
    have h51 := hW.2.2.2
    obtain ⟨e9, l119, hrow⟩ := h.2.2.2.2.1
    unfold w_Model_reach_L97
    rw [e9]
    by_cases ck : k < z.1.length
    · rw [rchN_s ck] at hR
      have hm := h.2.2.2.1.2 _ (gV_mem ck)
      refine itn (nle_oN ck (by omega)) ?_
      rw [oN_tnc (k := k) (by omega), hrow k ck, l119]
      refine ⟨(vp_oN (by omega)).mpr (by omega), (co (gmt (gc W (gV z.1 k).1) (gV z.1 k).2)).length + 1, ?_⟩
      refine ct_rch118 hW h12 hNS h110 hC h21 hm.1 hm.2 (R := rchC br W C (gV z.1 k).1 (gmt (gc W (gV z.1 k).1) (gV z.1 k).2) (co (gmt (gc W (gV z.1 k).1) (gV z.1 k).2)) z) (fun M1 h1 => ?_) _ 0 z M (by omega) (Nat.zero_le _) h rfl
      rw [lit32 1, oN_add]
      exact ih (k + 1) _ M1 (by omega) (by omega) h1 hR
    · rw [rchN_e ck] at hR
      subst hR
      exact itp (le_oN (by omega) (by omega)) (hfin M h)
/-- reach, in the twin -/
theorem ct_wreach (hk : k < 3) (hOn : tOn on M) (hon : on k = true) (hW : WO W) (h12 : W12 W) (hNS : NSi W) (hG : GL W s) (hLG : LG (zL s)) (hB0 : tcB V M) (l520 : mL M 520 0 = 612) (hvl : ∀ V, okV W V → V.length ≤ 381) (h : TAx G US A S W k br nq nl nf nk B F x s M) (hQ : ∀ M', TAx G US A S W k br nq nl nf nk B F x (rchO br W cc a V s).2.2 M' → LG (zL (rchO br W cc a V s).2.2) → tcB (rchO br W cc a V s).2.1 M' → (okV W (rchO br W cc a V s).2.1 ∨ (rchO br W cc a V s).2.1 = V) → Q (rchO br W cc a V s).1 M') : w_Model_reach 0 (Int32.ofNat k) cc a Q M := by
  have hQ' : ∀ y, rchO br W cc a V s = y → ∀ M', TAx G US A S W k br nq nl nf nk B F x y.2.2 M' → LG (zL y.2.2) → tcB y.2.1 M' → (okV W y.2.1 ∨ y.2.1 = V) → Q y.1 M' := fun y hy => by rw [← hy]; exact hQ
  unfold rchO at hQ'
  have h51 := hW.2.2.2
  have e2 : mI M 12 k 2 = Int32.ofNat W.length := h.1.1.cl.1.1.1
  unfold w_Model_reach
  refine ct_isClass hk hOn hon h51 e2 (fun z => itp rfl (hQ' _ (if_pos (Or.inl z)) M h hLG hB0 (Or.inr rfl))) (fun c hc ei ei2 nz => ?_)
  rw [ei2] at hQ'
  obtain ⟨a1, a2⟩ := hOn.at hk
  have hc12 := h.1.1.mcn hc
  have e136 : mI M 136 k c = Int32.ofNat (gc W c).2.2.2.2.2.length := hc12.1
  have l136 : mL M 136 k = 51 := h.1.1.1.1.1.1.2.2.2.2.1
  refine itn (by decide) ?_
  by_cases ca : a < 0
  · exact itp ca (hQ' _ (if_pos (Or.inr (Or.inl ca))) M h hLG hB0 (Or.inr rfl))
  refine itn ca ⟨a1, k, a2, ?_⟩
  rw [ei, oN_tnc (k := c) (by omega), e136, l136]
  refine ⟨(vp_oN (by omega)).mpr (by omega), ?_⟩
  by_cases cl : a < Int32.ofNat (gc W c).2.2.2.2.2.length
  · have nl' : ¬ Int32.ofNat (gc W c).2.2.2.2.2.length ≤ a := Int32.not_le.mpr cl
    have hQ2 := hQ' _ (if_neg (fun z => z.elim nz (fun z => z.elim ca nl')))
    have hjl : a.toNatClampNeg < (gc W c).2.2.2.2.2.length := idx_lt (by omega) ca nl'
    have ea := tnc_oN ca
    refine itp cl ⟨a1, k, a2, ?_⟩
    generalize a.toNatClampNeg = j at hQ2 hjl ea
    rw [← ea]
    have hT : TA G US A S W k br nq nl nf nk B F x s (sR M 11 0 45 (some (12, k))) := h
    have f45 : Fr (69556213141345269407515067115786764991705262549735948303537359111522614176378895669990532984393877424257869264331680209358104836822935374614554679608043721543799333994078233166448732839509381338884749875141583345849788064702954612877462466104677421689448088294080777773965362174599308044327164417092088846031042047278365580585966720455145967136585436087833973984505353126613550736388181582785893315094229488730062957948409704252857268529221075377285067062755595332929103886865297150820576930048624213679773234781064639103418048462727563158233601126703792262163018387042296687430434915196125330685777119717767970019341806901981510528366365657011400439883787084893751229924829447152769796462326141284670937650906274428797367613626454026848298648969369286983979169519208976077834399557390296948941219899625597632161323087361696526000865772268255307923110197940977474400891396850517544211016799549379926055142573277403100946091498432294529676854420081353757434477181439477999992832) M (sR M 11 0 45 (some (12, k))) := sR_fr
    have hB1 : tcB V (sR M 11 0 45 (some (12, k))) := hB0
    have l520' : mL (sR M 11 0 45 (some (12, k))) 520 0 = 612 := l520
    generalize sR M 11 0 45 (some (12, k)) = M0 at hT hB1 l520'
    obtain ⟨-, l119, -⟩ := hB1
    have h110 := hT.2.2.2.2.2.1.2
    have ecj : (12 : Int32) * Int32.ofNat c + Int32.ofNat j = Int32.ofNat (12 * c + j) := by rw [show (12 : Int32) = Int32.ofNat 12 from rfl, oN_mul, oN_add]
    have main : ∀ d i M1, 612 - i < d → i ≤ 612 → Fr SRt M0 M1 → (∀ t, t < i → mI M1 520 0 t = 0) → w_Model_reach_L43 0 Q d (Int32.ofNat c) (Int32.ofNat j) (Int32.ofNat i) M1 := by
      intro d
      induction d with
      | zero => intro i M1 h; omega
      | succ d ih =>
        intro i M1 hd hi hf hz
        have m520 : mL M1 520 0 = 612 := (hf.L (f := 520) rfl 0).trans l520'
        have m119 : mL M1 119 0 = 612 := (hf.L (f := 119) rfl 0).trans l119
        unfold w_Model_reach_L43
        by_cases ci : i = 612
        · subst ci
          rw [ecj, oN_tnc (k := 12 * c + j) (by omega)]
          refine itp (by decide) ⟨by rw [m119]; exact (vp_oN (a := 0) (by omega)).mpr (by omega), by show vp_in _ (mL M1 520 0); rw [m520]; exact (vp_oN (by omega)).mpr (by omega), _, rfl, 400, ?_⟩
          obtain ⟨M2, hM2⟩ : ∃ M2, M2 = sI (sI (sI M1 119 0 0 (Int32.ofNat (12 * c + j))) 520 0 (12 * c + j) ((1 : Int32) &&& 1)) 11 0 109 1 := ⟨_, rfl⟩
          show w_Model_reach_L97 0 Q 400 (0 : Int32) (sI (sI (sI M1 119 0 0 (Int32.ofNat (12 * c + j))) 520 0 (12 * c + j) ((1 : Int32) &&& 1)) 11 0 109 1)
          rw [← hM2]
          have f2 : Fr SRt M0 M2 := by rw [hM2]; exact Fr.wI rfl (Fr.wIa rfl rfl (Fr.wIa rfl rfl hf))
          have v2 : tcV W [(c, j)] M2 := by
            refine ⟨⟨List.pairwise_singleton _ _, fun m hm => by rw [List.mem_singleton.mp hm]; exact ⟨hc, hjl⟩⟩, ⟨?_, (f2.L (f := 119) rfl 0).trans l119, fun i hi => ?_⟩, (f2.L (f := 520) rfl 0).trans l520', fun m h1 h2 => ?_⟩
            · rw [hM2, mI_sI, if_pos ⟨rfl, rfl, rfl⟩]; rfl
            · have : i = 0 := by simp at hi; exact hi
              subst this
              rw [hM2]
              simp only [mI_sI, Nat.reduceEqDiff, and_false, false_and, if_false, and_self, true_and, and_true, if_true]
              rfl
            · have k12 := h12.2 m.1
              have hm51 := h12.1
              rw [hM2]
              by_cases em : m = (c, j)
              · subst em
                simp only [mI_sI, Nat.reduceEqDiff, and_false, false_and, if_false, and_self, true_and, and_true, if_true]
                rw [decide_eq_true (List.mem_singleton.mpr rfl)]; rfl
              · have ne : 12 * m.1 + m.2 ≠ 12 * c + j := fun e => by
                  refine em ?_
                  obtain ⟨m1, m2⟩ := m
                  dsimp only at *
                  have e1 : m1 = c := by omega
                  have e2 : m2 = j := by omega
                  rw [e1, e2]
                simp only [mI_sI, Nat.reduceEqDiff, and_false, false_and, if_false, and_self, true_and, and_true, if_true, ne]
                rw [hz _ (by omega), decide_eq_false (fun q => em (List.mem_singleton.mp q))]; rfl
          clear hM2
          have r2 : Rt G US A S W k br nq nl nf nk (zL s) ([(c, j)], zL s) M0 M2 := ⟨hT.1.mfr f2, ⟨LkM.rf hG.1, hLG⟩, f2.sub rfl, v2⟩
          exact ct_rch97 (C := zC s) hW h12 hNS h110 (fun q hq => (hT.2.1.1.2.1 q hq).1) hG.2.2.2.2.1 (R := rchN br W (zC s) 400 0 ([(c, j)], zL s)) hvl (fun M3 r3 => hQ2 M3 (hT.lk r3.2.2.1 r3.1).xx r3.2.1.2 r3.2.2.2.2.1 (Or.inl r3.2.2.2.1)) 400 0 _ M2 (by omega) (by omega) r2 rfl
        · refine itn (nle_oN (a := 612) (by omega) (by omega)) ⟨by rw [m520]; exact (vp_oN (by omega)).mpr (by omega), ?_⟩
          rw [oN_tnc (k := i) (by omega), lit32 1, oN_add]
          refine ih (i + 1) _ (by omega) (by omega) (Fr.wIa rfl rfl hf) (fun t ht => ?_)
          rw [mI_sI]
          by_cases et : t = i
          · rw [if_pos ⟨rfl, rfl, et⟩]; rfl
          · rw [if_neg (fun z => et z.2.2)]; exact hz t (by omega)
    exact ⟨613, main 613 0 M0 (by omega) (by omega) (Fr.rf _ _) (fun t ht => absurd ht (Nat.not_lt_zero t))⟩
  · exact itn cl (hQ' _ (if_pos (Or.inr (Or.inr (Int32.not_lt.mp cl)))) M h hLG hB0 (Or.inr rfl))
theorem ct_wreached (h : tcB V M) (hl : V.length ≤ 381) (hV : ∀ m ∈ V, m.1 < 51 ∧ m.2 < 12) (hQ : Q (rcdO V a) M) : w_Model_reached 0 a Q M := by
  obtain ⟨b1, b2, b4⟩ := h
  unfold w_Model_reached
  rw [b1]
  unfold rcdO at hQ
  by_cases c0 : a < 0
  · rw [if_pos (Or.inl c0)] at hQ; exact itp c0 hQ
  refine itn c0 ?_
  by_cases c1 : a < Int32.ofNat V.length
  · have n1 : ¬ Int32.ofNat V.length ≤ a := Int32.not_le.mpr c1
    rw [if_neg (fun z => z.elim c0 n1)] at hQ
    have hi := idx_lt (by omega) c0 n1
    have ea := tnc_oN c0
    generalize a.toNatClampNeg = i at hQ hi ea
    have hm := hV _ (gV_mem hi)
    refine itp c1 ?_
    rw [← ea, b4 i hi, b2]
    refine ⟨(vp_oN (by omega)).mpr (by omega), by decide, (vp_oN (by omega)).mpr (by omega), by decide, ?_⟩
    generalize gV V i = m at hQ hm
    have e1 : Int32.ofNat (12 * m.1 + m.2) / 12 = Int32.ofNat m.1 := by
      rw [show (12 : Int32) = Int32.ofNat 12 from rfl, oN_div (by omega) (by omega)]
      congr 1; omega
    rw [e1]
    have e2 : (100 : Int32) * Int32.ofNat m.1 + (Int32.ofNat (12 * m.1 + m.2) - Int32.ofNat m.1 * 12) = Int32.ofNat (100 * m.1 + m.2) := by
      rw [show (12 : Int32) = Int32.ofNat 12 from rfl, show (100 : Int32) = Int32.ofNat 100 from rfl, oN_mul, oN_mul, oN_sub (by omega), oN_add]
      congr 1; omega
    rw [e2]; exact hQ
  · rw [if_pos (Or.inr (Int32.not_lt.mp c1))] at hQ
    exact itn c1 hQ
end
