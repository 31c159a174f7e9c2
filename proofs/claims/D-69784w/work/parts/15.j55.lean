/-! THE OPERATION change, in the twin -/
section
variable {G : List Sl} {U1 : List (List Kd × Kd)} {BB A : List Nm} {S : List Sg} {B F t w i j k r : Nat} {T : List Trl} {L L' : Trl} {M M' : Mem} {Q : Int32 → Mem → Prop} {Q' X : Mem → Prop} {a b c d v : Int32}
theorem n12 {n : Nat} (h1 : 1 ≤ n) (h6 : n ≤ 60) (h0 : ¬ c < 0) : (Int32.ofNat n - 1 ≤ c ↔ Int32.ofNat n - 2 < c) := by
  have e1 : (Int32.ofNat n - 1).toInt = (n : Int) - 1 := by
    rw [lit32 1, oN_sub (by omega), oN_toInt (by omega)]; omega
  have e2 : (Int32.ofNat n - 2).toInt = (n : Int) - 2 := by
    by_cases e : n = 1
    · subst e; rfl
    · rw [lit32 2, oN_sub (by omega), oN_toInt (by omega)]; omega
  rw [Int32.le_iff_toInt_le, Int32.lt_iff_toInt_lt, e1, e2]
  omega
theorem ct_wchange (h : MdT G U1 BB A S B F T M) (hl9 : mL M 129 0 = 62) (hQ : ∀ M', MdT G U1 BB A S B F (chgO T a b c d).2 M' → mL M' 129 0 = 62 → Q (chgO T a b c d).1 M') : w_Model_change 0 a b c d Q M := by
  have h40 := h.n
  unfold chgO at hQ
  unfold w_Model_change
  refine ct_mdTr h (fun z => itp rfl (by rw [if_pos z] at hQ; exact hQ M h hl9)) (fun t ht ea ea2 z => itn (by decide) ?_)
  rw [if_neg z, ea2] at hQ
  by_cases cb0 : b < 0
  · rw [if_pos (Or.inl cb0)] at hQ
    exact itp cb0 (hQ M h hl9)
  refine itn cb0 ?_
  by_cases cb3 : 3 < b
  · rw [if_pos (Or.inr cb3)] at hQ
    exact itn (Int32.not_le.mpr cb3) (hQ M h hl9)
  refine itp (Int32.not_lt.mp cb3) ?_
  rw [if_neg (fun z => z.elim cb0 cb3)] at hQ
  obtain ⟨w, hw, eb⟩ : ∃ w, w ≤ 3 ∧ b = Int32.ofNat w := by
    refine ⟨b.toNatClampNeg, ?_, (ofNat_tnc cb0).symm⟩
    have h1 := cb3
    rw [← ofNat_tnc cb0, lit32 3] at h1
    have : ¬ 3 < b.toNatClampNeg := fun z => h1 ((oN_lt (a := 3) (by omega) (tnc_lt _)).mpr z)
    omega
  rw [ea]
  refine ct_linesOf h ht hl9 (fun M6 f6 lf6 => ?_)
  have h6 := h.w129 (f6.sub rfl)
  have l9 : mL M6 129 0 = 62 := lf6.1
  obtain ⟨hTO, hnm, hul⟩ := h.2.2 _ (gTr_mem ht)
  obtain ⟨⟨hne, h60⟩, hsz, h10, -⟩ := id hTO
  have hn1 : 1 ≤ (gTr T t).length := by
    cases e : gTr T t with
    | nil => exact absurd e hne
    | cons x y => rw [List.length_cons]; omega
  obtain ⟨x1, x2⟩ := h6.row ht
  obtain ⟨-, ⟨l122, l412⟩, -⟩ := id h6.2.1.1
  generalize eL : gTr T t = L at hQ hTO hnm hul hne h60 hsz h10 hn1 x1 x2 lf6
  rw [eb] at hQ ⊢
  rw [oN_tnc (k := w) (by omega)] at hQ
  have cw : ∀ m, m < 100 → (Int32.ofNat w = (OfNat.ofNat m : Int32) ↔ w = m) := fun m hm => by rw [lit32 m]; exact eqN (by omega) (by omega)
  by_cases c0 : c < 0
  · rw [if_pos (Or.inl c0)] at hQ
    exact itp c0 (hQ M6 h6 l9)
  refine itn c0 ?_
  by_cases c1 : Int32.ofNat L.length - 1 ≤ c
  · rw [if_pos (Or.inr ((n12 hn1 h60 c0).mp c1))] at hQ
    exact itp c1 (hQ M6 h6 l9)
  refine itn c1 ?_
  have cz : ¬ (c < 0 ∨ Int32.ofNat L.length - 2 < c) := fun z => z.elim c0 (fun z => c1 ((n12 hn1 h60 c0).mpr z))
  rw [if_neg cz] at hQ
  obtain ⟨i, ec, ec2, hi⟩ := in_n2 hn1 h60 cz
  rw [ec2] at hQ
  have szb : ∀ x, x < L.length → szL L x ≤ (txt L).length := fun x hx => by
    have a := len_ln hx
    have b := txt_take_le (L := L) (k := x + 1)
    show (glL L x).length + 1 ≤ _
    omega
  have j59 : ∀ j, (2 ≤ w → d = Int32.ofNat j ∧ j + 1 < L.length) → (∀ M', MdT G U1 BB A S B F (if T.length = 40 ∨ 1200 < (txt (chL w i j L)).length ∨ (Int32.ofNat w = 1 ∧ L.length = 60) then ((-3 : Int32), T) else (Int32.ofNat T.length, T ++ [chL w i j L])).2 M' → mL M' 129 0 = 62 → Q (if T.length = 40 ∨ 1200 < (txt (chL w i j L)).length ∨ (Int32.ofNat w = 1 ∧ L.length = 60) then ((-3 : Int32), T) else (Int32.ofNat T.length, T ++ [chL w i j L])).1 M') → w_Model_change_j59 0 Q (Int32.ofNat t) (Int32.ofNat w) c d (Int32.ofNat L.length) M6 := by
    intro j hj hq
    -- the draft
    have hbig : (txt (chL w i j L)).length ≤ 2402 := by
      have e0 := chL_0 (L := L) (i := i) (j := j) (by omega)
      have e1 := chL_1 (L := L) (i := i) (j := j) (by omega)
      have b1 := szb i (by omega)
      by_cases q : w = 0
      · rw [q]; omega
      by_cases q1 : w = 1
      · rw [q1]; omega
      obtain ⟨-, hj2⟩ := hj (by omega)
      have b2' := szb j (by omega)
      by_cases q3 : w = 3
      · have e3 := chL_3 (L := L) (i := i) (j := j) (by omega)
        rw [q3]; omega
      · have e2 := chL_2 (L := L) (i := i) (j := j) (by omega) (by omega)
        rw [show w = 2 by omega]; omega
    have j155 : T.length ≠ 40 → w_Model_change_j155 0 Q (Int32.ofNat t) (Int32.ofNat w) c d (Int32.ofNat L.length) M6 := fun c40 => by
      have j170 : ¬ (Int32.ofNat w = 1 ∧ L.length = 60) → w_Model_change_j170 0 Q (Int32.ofNat t) (Int32.ofNat w) c d (Int32.ofNat L.length) M6 := fun cn => by
        have hj2 : j + 1 < L.length ∨ w ≤ 1 := by
          by_cases c2 : 2 ≤ w
          · exact Or.inl (hj c2).2
          · exact Or.inr (by omega)
        unfold w_Model_change_j170
        refine ⟨L.length + 1, ?_⟩
        have loop : ∀ n k M1, L.length - k < n → k ≤ L.length → MdT G U1 BB A S B F T M1 → lfT L M1 → dfD (txt (chF w i j L k)) M1 → w_Model_change_L178 0 Q n (Int32.ofNat t) (Int32.ofNat w) c d (Int32.ofNat L.length) (Int32.ofNat k) M1 := by
          intro n
          induction n with
          | zero => intro k M1 z; exact absurd z (by omega)
          | succ n ih =>
            intro k M1 hkn hk p1 p2 p3
            unfold w_Model_change_L178
            by_cases ek : k = L.length
            · subst ek
              have p3 : dfD (txt (chL w i j L)) M1 := p3
              refine itp (le_oN (Nat.le_refl _) (by omega)) ?_
              rw [p3.2.1]
              by_cases cbig : 1200 < (txt (chL w i j L)).length
              · rw [if_pos (Or.inr (Or.inl cbig))] at hq
                exact itn (nle_oN (b := 1200) cbig (by omega)) (hq M1 p1 p2.1)
              · rw [if_neg (fun z => z.elim c40 (fun z => z.elim cbig cn))] at hq
                have hTO' : TrO (chL w i j L) := hTO.ch hi hj2 (fun z q => cn ⟨(cw 1 (by omega)).mpr z, q⟩) (by omega)
                have hmem : ∀ l ∈ chL w i j L, l ∈ L := ch_mem (by omega) (hj2.imp (fun z => by omega) id) _ (Nat.le_refl _)
                exact itp (le_oN (b := 1200) (by omega) (by omega)) (ct_keep p1 (by omega) hTO' (fun l hl => hnm l (hmem l hl)) (fun l hl => hul l (hmem l hl)) p3 (fun M2 q1 q2 => hq M2 q1 ((q2.L (f := 129) rfl 0).trans p2.1)))
            refine itn (nle_oN (by omega) (by omega)) ?_
            have hmo := ch_mono (w := w) (i := i) (j := j) (L := L) (k := k + 1) (m := L.length) (by omega)
            have hmo : (txt (chF w i j L (k + 1))).length ≤ (txt (chL w i j L)).length := hmo
            have hcs := chF_s (w := w) (i := i) (j := j) (L := L) (k := k)
            have hcl := congrArg List.length hcs
            rw [List.length_append, chP_len] at hcl
            have eik : (Int32.ofNat k = c ↔ k = i) := by rw [ec]; exact eqN (by omega) (by omega)
            have dl : ∀ {D : List Int32} {x : Nat} {M2 : Mem} {Q2 : Mem → Prop}, MdT G U1 BB A S B F T M2 → lfT L M2 → x < L.length → dfD D M2 → D.length + szL L x ≤ 2408 → (∀ M', MdT G U1 BB A S B F T M' → lfT L M' → dfD (D ++ (glL L x ++ [10])) M' → Q2 M') → w_Model_draftLine 0 (Int32.ofNat t) (Int32.ofNat x) Q2 M2 := fun {D x M2 Q2} g1 g2 g3 g4 g5 g6 => by
              have := ct_draftLine (i := x) (D := D) (Q' := Q2) g1 ht
              rw [eL] at this
              exact this g2 g3 g4 g5 (fun M' z1 z2 z3 _ => g6 M' z1 z2 z3)
            have j272 : ∀ M2, MdT G U1 BB A S B F T M2 → lfT L M2 → dfD (txt (chF w i j L (k + 1))) M2 → w_Model_change_j272 0 Q (w_Model_change_L178 0 Q n) (Int32.ofNat t) (Int32.ofNat w) c d (Int32.ofNat L.length) (Int32.ofNat k) M2 := fun M2 q1 q2 q3 => by
              unfold w_Model_change_j272
              rw [lit32 1, oN_add]
              exact ih (k + 1) M2 (by omega) (by omega) q1 q2 q3
            have j247 : ∀ x, x < L.length → ¬ (w = 0 ∧ k = i) → (¬ (w = 1 ∧ k = i) → x = (if (w = 2 ∨ w = 3) ∧ k = i then j else if w = 2 ∧ k = j then i else k)) → ((w = 1 ∧ k = i) → x = k) → w_Model_change_j247 0 Q (w_Model_change_L178 0 Q n) (Int32.ofNat t) (Int32.ofNat w) c d (Int32.ofNat L.length) (Int32.ofNat k) (Int32.ofNat x) M1 := fun x hx c0 cx cx1 => by
              unfold w_Model_change_j247
              rw [if_neg c0] at hcl
              have ep : w = 1 ∧ k = i → txt (chP w i j k L) = (glL L k ++ [10]) ++ (glL L k ++ [10]) := fun z => by
                unfold chP
                rw [if_neg c0, if_pos z]
                show (glL L k ++ [10]) ++ ((glL L k ++ [10]) ++ []) = _
                rw [List.append_nil]
              have ep1 : ¬ (w = 1 ∧ k = i) → txt (chP w i j k L) = glL L x ++ [10] := fun z => by
                unfold chP
                rw [if_neg c0, if_neg z, cx z]
                exact txt_11 _
              refine dl p1 p2 hx p3 ?_ (fun M2 q1 q2 q3 => ?_)
              · by_cases z : w = 1 ∧ k = i
                · rw [if_pos z] at hcl
                  rw [cx1 z]
                  omega
                · rw [if_neg z, ← cx z] at hcl
                  omega
              unfold w_Model_change_j254
              by_cases z1 : w = 1
              · refine itp ((cw 1 (by omega)).mpr z1) ?_
                by_cases z : k = i
                · refine itp (eik.mpr z) ?_
                  rw [if_pos ⟨z1, z⟩] at hcl
                  have hx2 : x = k := cx1 ⟨z1, z⟩
                  have hsz2 : szL L k = (glL L k).length + 1 := rfl
                  refine dl q1 q2 hx q3 ?_ (fun M3 q4 q5 q6 => j272 M3 q4 q5 ?_)
                  · rw [hx2]
                    simp only [List.length_append, List.length_singleton]
                    omega
                  · rw [hcs, ep ⟨z1, z⟩]
                    rw [hx2, List.append_assoc] at q6
                    exact q6
                · refine itn (fun q => z (eik.mp q)) (j272 M2 q1 q2 ?_)
                  rw [hcs, ep1 (fun q => z q.2)]; exact q3
              · refine itn (fun q => z1 ((cw 1 (by omega)).mp q)) (j272 M2 q1 q2 ?_)
                rw [hcs, ep1 (fun q => z1 q.1)]; exact q3
            have j235 : ∀ x, x < L.length → (¬ (w = 1 ∧ k = i) → x = (if (w = 2 ∨ w = 3) ∧ k = i then j else if w = 2 ∧ k = j then i else k)) → ((w = 1 ∧ k = i) → x = k) → w_Model_change_j235 0 Q (w_Model_change_L178 0 Q n) (Int32.ofNat t) (Int32.ofNat w) c d (Int32.ofNat L.length) (Int32.ofNat k) (Int32.ofNat x) M1 := fun x hx cx cx1 => by
              unfold w_Model_change_j235
              by_cases z0 : w = 0
              · refine itp ((cw 0 (by omega)).mpr z0) ?_
                by_cases z : k = i
                · refine itp (eik.mpr z) ?_
                  unfold w_Model_change_j254
                  refine itn (fun q => by have := (cw 1 (by omega)).mp q; omega) (j272 M1 p1 p2 ?_)
                  rw [hcs]
                  unfold chP
                  rw [if_pos ⟨z0, z⟩]
                  show dfD (_ ++ []) M1
                  rw [List.append_nil]; exact p3
                · exact itn (fun q => z (eik.mp q)) (j247 x hx (fun q => z q.2) cx cx1)
              · exact itn (fun q => z0 ((cw 0 (by omega)).mp q)) (j247 x hx (fun q => z0 q.1) cx cx1)
            have j233 : ¬ ((w = 2 ∨ w = 3) ∧ k = i) → ¬ (w = 2 ∧ k = j) → w_Model_change_j233 0 Q (w_Model_change_L178 0 Q n) (Int32.ofNat t) (Int32.ofNat w) c d (Int32.ofNat L.length) (Int32.ofNat k) M1 := fun c1 c2 => by
              unfold w_Model_change_j233
              exact j235 k (by omega) (fun _ => by rw [if_neg c1, if_neg c2]) (fun _ => rfl)
            have jd : ∀ x, (w = 2 ∨ w = 3) → k = i → x = d → w_Model_change_j235 0 Q (w_Model_change_L178 0 Q n) (Int32.ofNat t) (Int32.ofNat w) c d (Int32.ofNat L.length) (Int32.ofNat k) x M1 := fun x c1 c2 ex => by
              obtain ⟨e1, e2⟩ := hj (by omega)
              rw [ex, e1]
              exact e1 ▸ j235 j (by omega) (fun _ => by rw [if_pos ⟨c1, c2⟩]) (fun z => by omega)
            have j217 : ¬ (w = 2 ∧ k = i) → ¬ (w = 2 ∧ k = j) → w_Model_change_j217 0 Q (w_Model_change_L178 0 Q n) (Int32.ofNat t) (Int32.ofNat w) c d (Int32.ofNat L.length) (Int32.ofNat k) M1 := fun c1 c2 => by
              unfold w_Model_change_j217
              by_cases z3 : w = 3
              · refine itp ((cw 3 (by omega)).mpr z3) ?_
                by_cases z : k = i
                · exact itp (eik.mpr z) (jd d (Or.inr z3) z rfl)
                · exact itn (fun q => z (eik.mp q)) (j233 (fun q => z q.2) c2)
              · refine itn (fun q => z3 ((cw 3 (by omega)).mp q)) (j233 (fun q => ?_) c2)
                rcases q.1 with y | y
                · exact c1 ⟨y, q.2⟩
                · exact z3 y
            have j201 : ¬ (w = 2 ∧ k = i) → w_Model_change_j201 0 Q (w_Model_change_L178 0 Q n) (Int32.ofNat t) (Int32.ofNat w) c d (Int32.ofNat L.length) (Int32.ofNat k) M1 := fun c1 => by
              unfold w_Model_change_j201
              by_cases z2 : w = 2
              · refine itp ((cw 2 (by omega)).mpr z2) ?_
                obtain ⟨e1, e2⟩ := hj (by omega)
                by_cases z : k = j
                · refine itp (by rw [e1, z]) ?_
                  have := j235 i (by omega) (fun _ => by
                    rw [if_neg (fun q => c1 ⟨z2, q.2⟩), if_pos ⟨z2, z⟩]) (fun q => by omega)
                  rw [← ec] at this
                  exact this
                · exact itn (fun q => by rw [e1] at q; exact z ((eqN (by omega) (by omega)).mp q)) (j217 c1 (fun q => z q.2))
              · exact itn (fun q => z2 ((cw 2 (by omega)).mp q)) (j217 c1 (fun q => z2 q.1))
            by_cases z2 : w = 2
            · refine itp ((cw 2 (by omega)).mpr z2) ?_
              by_cases z : k = i
              · exact itp (eik.mpr z) (jd d (Or.inl z2) z rfl)
              · exact itn (fun q => z (eik.mp q)) (j201 (fun q => z q.2))
            · exact itn (fun q => z2 ((cw 2 (by omega)).mp q)) (j201 (fun q => z2 q.1))
        have f7 : Fr (21022075495297667614751928455960893690002438624272829115943839442806697504563795810911475838925470847093888365073324129408307927215659038831381730042108594316069968993921710440066615373648013489084747192164702790165341729959309681053742435982348771802000052373069440771396425769052441514403521407536728128889781028801132578826022062769352911176463634450170163296745842783117938980939247969435740743001570797837710407965981817426675496744371408847255540644683853435409907956707419528276220597673982859710791069009098407760090115938669912137943834639403188507830370601269798039898169080981489165239144575694919684542547605895094295783643386486022949610288499640395373040658654793126647779511115211120505631892026006581024605674375718403810353971988226672991384150071118735359260805836448334210284378550299021477624961784815505849836613829000945773667835109750063160924999729813089929274408481335441801762749345552844581051831781871263333513232832871977532756648900473559067020893320654456691305452929024) M6 (sI M6 11 0 123 0) := Fr.wI rfl (Fr.rf _ _)
        exact loop (L.length + 1) 0 _ (by omega) (Nat.zero_le _) (h6.w129 f7) ⟨lf6.1, fun x hx => by rw [mI_sI, if_neg (fun z => absurd z.1 (by decide))]; exact lf6.2 x hx⟩ ⟨h6.2.1.2.1.2.2.2, by rw [mI_sI, if_pos ⟨rfl, rfl, rfl⟩]; rfl, fun k hk => absurd hk (by show ¬ k < 0; omega)⟩
      unfold w_Model_change_j155
      by_cases c1 : Int32.ofNat w = 1
      · refine itp c1 ?_
        by_cases c6 : L.length = 60
        · rw [if_pos (Or.inr (Or.inr ⟨c1, c6⟩))] at hq
          exact itp (by rw [c6]; rfl) (hq M6 h6 l9)
        · exact itn (fun z => c6 ((oN_inj (by omega) (by omega)).mp (z.trans (lit32 60)))) (j170 (fun z => c6 z.2))
      · exact itn c1 (j170 (fun z => c1 z.1))
    have j129 : ∀ v6 m, v6 = Int32.ofNat m → m ≤ 2500 → (w = 1 ∨ w = 3 → m = (txt (chL w i j L)).length) → w_Model_change_j129 0 Q (Int32.ofNat t) (Int32.ofNat w) c d (Int32.ofNat L.length) v6 M6 := fun v6 m ev hm hmm => by
      unfold w_Model_change_j129
      rw [h6.n.1, ev]
      by_cases c40 : T.length = 40
      · rw [if_pos (Or.inl c40)] at hq
        exact itp (by rw [c40]; rfl) (hq M6 h6 l9)
      refine itn (fun z => c40 ((oN_inj (by omega) (by omega)).mp (z.trans (lit32 40)))) ?_
      by_cases cm : m ≤ 1200
      · exact itp (le_oN (b := 1200) cm (by omega)) (j155 c40)
      refine itn (nle_oN (b := 1200) (by omega) (by omega)) ?_
      by_cases z0 : w = 0
      · exact itp ((cw 0 (by omega)).mpr z0) (j155 c40)
      refine itn (fun q => z0 ((cw 0 (by omega)).mp q)) ?_
      by_cases z2 : w = 2
      · exact itp ((cw 2 (by omega)).mpr z2) (j155 c40)
      refine itn (fun q => z2 ((cw 2 (by omega)).mp q)) ?_
      have := hmm (by omega)
      rw [if_pos (Or.inr (Or.inl (by omega)))] at hq
      exact hq M6 h6 l9
    have li := len_ln (show i < L.length by omega)
    have hsi : szL L i = (glL L i).length + 1 := rfl
    unfold w_Model_change_j59
    rw [ec, lit32 1, oN_add, oN_tnc (k := i + 1) (by omega), oN_tnc (k := i) (by omega), oN_tnc (k := t) (by omega), x1, lf6.2 (i + 1) (by omega), lf6.2 i (by omega), oN_sub (by omega), show (txt (L.take (i + 1))).length - (txt (L.take i)).length = szL L i by omega]
    refine ⟨by rw [l122]; exact (vp_oN (by omega)).mpr (by omega), by rw [l9]; exact (vp_oN (by omega)).mpr (by omega), by rw [l9]; exact (vp_oN (by omega)).mpr (by omega), _, rfl, ?_⟩
    rw [← ec]
    by_cases z1 : w = 1
    · have e1 := chL_1 (L := L) (i := i) (j := j) (by omega)
      refine itp (by rw [z1]) ?_
      rw [oN_add]
      exact j129 _ _ rfl (by have := szb i (by omega); omega) (fun _ => by rw [z1]; exact e1.symm)
    refine itn (fun q => z1 ((oN_inj (by omega) (by omega)).mp q)) ?_
    by_cases z3 : w = 3
    · refine itp ((cw 3 (by omega)).mpr z3) ?_
      obtain ⟨ed, hj2⟩ := hj (by omega)
      have lj := len_ln (show j < L.length by omega)
      have hsj : szL L j = (glL L j).length + 1 := rfl
      have e3 := chL_3 (L := L) (i := i) (j := j) (by omega)
      have st : ∀ dd, dd = Int32.ofNat j → vp_in (dd + Int32.ofNat 1) (mL M6 129 0) ∧ vp_in dd (mL M6 129 0) ∧ ∃ x42 : Int32, x42 = (Int32.ofNat (txt L).length + (((mI M6 129 0 (dd + Int32.ofNat 1).toNatClampNeg) - (mI M6 129 0 dd.toNatClampNeg)) - Int32.ofNat (szL L i))) ∧ w_Model_change_j129 0 Q (Int32.ofNat t) (Int32.ofNat w) c d (Int32.ofNat L.length) x42 M6 := fun dd edd => by
        rw [edd, oN_add, oN_tnc (k := j + 1) (by omega), oN_tnc (k := j) (by omega), lf6.2 (j + 1) (by omega), lf6.2 j (by omega), oN_sub (by omega), show (txt (L.take (j + 1))).length - (txt (L.take j)).length = szL L j by omega, add_sub32 e3.symm]
        exact ⟨by rw [l9]; exact (vp_oN (by omega)).mpr (by omega), by rw [l9]; exact (vp_oN (by omega)).mpr (by omega), _, rfl, j129 _ _ rfl (by rw [z3] at hbig; omega) (fun _ => by rw [z3])⟩
      exact st d ed
    · exact itn (fun q => z3 ((cw 3 (by omega)).mp q)) (j129 _ _ rfl (by omega) (fun q => by omega))
  by_cases w1 : w ≤ 1
  · rw [if_neg (fun z => absurd z.1 (nlt_oN (a := 1) (by omega) (by omega)))] at hQ
    exact itp (le_oN (b := 1) w1 (by omega)) (j59 _ (fun z => by omega) hQ)
  refine itn (nle_oN (b := 1) (by omega) (by omega)) ?_
  by_cases d0 : d < 0
  · rw [if_pos ⟨lt_oN (a := 1) (by omega) (by omega), Or.inl d0⟩] at hQ
    exact itp d0 (hQ M6 h6 l9)
  refine itn d0 ?_
  by_cases d1 : Int32.ofNat L.length - 1 ≤ d
  · rw [if_pos ⟨lt_oN (a := 1) (by omega) (by omega), Or.inr ((n12 hn1 h60 d0).mp d1)⟩] at hQ
    exact itn (Int32.not_lt.mpr d1) (hQ M6 h6 l9)
  refine itp (Int32.not_le.mp d1) ?_
  have dz : ¬ (d < 0 ∨ Int32.ofNat L.length - 2 < d) := fun z => z.elim d0 (fun z => d1 ((n12 hn1 h60 d0).mpr z))
  rw [if_neg (fun q => dz q.2)] at hQ
  obtain ⟨j, ed, ed2, hj⟩ := in_n2 hn1 h60 dz
  exact j59 _ (fun _ => by rw [ed2]; exact ⟨ed, hj⟩) hQ
end
