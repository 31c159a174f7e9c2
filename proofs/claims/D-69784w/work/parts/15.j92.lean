/-! KINDS in the twin: inferred, or with frames -/
theorem rec_good {W : List Cls} {c : Nat} {x : Mth} (hw : wfM x) : ∀ n a s R, a + n ≤ (co x).length → gdK s → gdR R → R.length = (co x).length → gdR (recS W c x n a s R)
  | 0, _, _, _, _, _, h, _ => h
  | n + 1, a, s, R, ha, hs, h, hl => by
    unfold recS
    cases e : entS W x a s with
    | inl r => exact h
    | inr y =>
      obtain ⟨g1, g2⟩ := ent_good hw (by omega) hs e
      have h1 : gdR (R.set a (some y)) := h.set (by omega) g1 g2
      show gdR (match stepS W c x a y.1 y.2 with | .inl _ => R.set a (some y) | .inr s' => recS W c x n (a + 1) s' (R.set a (some y)))
      cases e2 : stepS W c x a y.1 y.2 with
      | inl r => exact h1
      | inr s' => exact rec_good hw n (a + 1) s' _ (by omega) (step_good hw (by omega) g1 g2 e2) h1 (by rw [List.length_set]; exact hl)
theorem frm_good {W : List Cls} {c : Nat} {x : Mth} (hw : wfM x) : gdR (frmS W c x) := rec_good hw _ 0 _ _ (by omega) (fun _ => ⟨gdL_beg hw, fun κ hκ => absurd hκ (by simp)⟩) gdR_no (List.length_replicate ..)
section
variable {G : List Sl} {US : UST} {A : List Nm} {S : List Sg} {W : List Cls} {w c k : Nat} {br : Int32} {nq nl nf nk : Nat} {M M' : Mem} {Q : Int32 → Mem → Prop} {Q' : Mem → Prop} {n a : Nat} {s : Ti} {R : Tr} {lo st : List Kd} {Ex : Mem → Prop}
/-- what kinds ask of the twin's rows -/
def TLn (M : Mem) : Prop := (mL M 111 0 = 20 ∧ mL M 212 0 = 28 ∧ mL M 112 0 = 10) ∧ mL M 212 1 = 1 ∧ mL M 117 0 = 20 ∧ mL M 118 0 = 28
theorem TLn.fr {F : Nat} (h : TLn M) (hf : Fr F M M') (hF : okF F [5111, 5212, 5112, 5117, 5118] = true := by rfl) : TLn M' :=
  ⟨⟨(hf.L (f := 111) (okF_in hF (by simp)) 0).trans h.1.1, (hf.L (f := 212) (okF_in hF (by simp)) 0).trans h.1.2.1, (hf.L (f := 112) (okF_in hF (by simp)) 0).trans h.1.2.2⟩, (hf.L (f := 212) (okF_in hF (by simp)) 1).trans h.2.1, (hf.L (f := 117) (okF_in hF (by simp)) 0).trans h.2.2.1, (hf.L (f := 118) (okF_in hF (by simp)) 0).trans h.2.2.2⟩
theorem ct_infer (h : TB G US A S W w br nq nl nf nk M) (hB : BI W) (hl : TLn M) (h77 : mI M 11 0 77 = 0) (hc : c < W.length) (hk : k < (gc W c).2.2.2.2.2.length) (hwf : wfM (gmt (gc W c) k)) (hp : (gc W c).2.1 ≠ []) (hne : co (gmt (gc W c) k) ≠ []) (hTb : TbT A (gmt (gc W c) k) (noR (gmt (gc W c) k)) M) (h101 : mI M 11 0 101 = Int32.ofNat (co (gmt (gc W c) k)).length) (h102 : mI M 11 0 102 = Int32.ofNat (lr (gmt (gc W c) k)))
    (hQ : ∀ M', TbT A (gmt (gc W c) k) (infS W c (gmt (gc W c) k)).2 M' → gdR (infS W c (gmt (gc W c) k)).2 → ((infS W c (gmt (gc W c) k)).1.1 ≠ 0 → mI M' 11 0 74 = Int32.ofNat (infS W c (gmt (gc W c) k)).1.2) → Q (Int32.ofNat (infS W c (gmt (gc W c) k)).1.1) M') : w_Model_infer 0 (Int32.ofNat c) (Int32.ofNat (12 * c + k)) Q M := by
  have hlen : 0 < (co (gmt (gc W c) k)).length := by
    rcases Nat.eq_zero_or_pos (co (gmt (gc W c) k)).length with z | z
    · exact absurd (List.eq_nil_of_length_eq_zero z) hne
    · exact z
  have h80 := hwf.2.2.1.1
  unfold w_Model_infer
  refine mf_w_Model_begin (Q := fun M' => Fr F_Model_begin M M' → _) (fun M' hf hp => hp hf) (ct_tbegin h hl.1 h77 hc hk hwf hp hne (fun M1 h1 hU _ f1 => ?_))
  have hS := hU.2.1 rfl
  refine ct_record (a := 0) (st := []) (hTb.fr f1) h1.lr.2 h1.sr.2 h80 ((f1.I (f := 11) (k := 102) rfl 0).trans h102) ⟨hS.1.1, hS.1.2.1⟩ hS.2.1.1 hS.2.1.2 hS.2.2.1.1 hS.2.2.1.2.1 hS.2.2.1.2.2 hlen (fun M2 f2 hT2 => ⟨Or.inr rfl, ?_⟩)
  have f3 : Fr (20048213477418582548858574348412412347795904754898861995643462603384683136524005709563709105420561644643677105973552827270801474776896513778096895258053392711706131929322920265261283277175916184506175224461272039571134309729871445707075534803723117639541675923413697024723459023525659098056336791550377015008717564393169955087682783860543166328872332048578418061014025481336535435618637055812588446618624494397840888944608514239001747841235550734763661045726636348161609608371181038166256520914061412535468167313669593582239261568708336008018335952189625270681734658498571433923882561666001477469582153029365238707110982794851585181849848257086705789841174736400006333025603097082755832205882273788934356586481100636505704569221228030977586719501711533538231039115065322264920049511383375368389490652369519689202272209945207452618230656624742292087397680044234429287910203755464476533326119411284869326660783329770168049820528559083254042239577016245884599002953791058464106049602493376530219008) M2 (sI M2 11 0 103 1) := Fr.wI rfl (Fr.rf _ _)
  have hl2 := ((hl.fr f1).fr f2).fr f3
  unfold infS at hQ
  refine ⟨101, ct_inferL hB (fun M' q1 q2 q3 q4 => hQ M' q1 q2 q4) 101 100 _ _ (by omega) (by omega) (by omega) ⟨(h1.fr f2).fr f3, ⟨⟨hT2.fr f3, gdR_no.set (by rw [hTb.1]; exact hlen) (gdL_beg hwf) (fun κ hκ => absurd hκ (by simp))⟩, ⟨by rw [mI_sI, if_pos ⟨rfl, rfl, rfl⟩]; rfl, (f3.I (f := 11) (k := 101) rfl 0).trans ((f2.I (f := 11) (k := 101) rfl 0).trans ((f1.I (f := 11) (k := 101) rfl 0).trans h101)), (f3.I (f := 11) (k := 102) rfl 0).trans ((f2.I (f := 11) (k := 102) rfl 0).trans ((f1.I (f := 11) (k := 102) rfl 0).trans h102))⟩, hl2.2.2⟩, ⟨hl2.1, hl2.2.1⟩, ?_⟩ rfl⟩
  exact (f3.I (f := 11) (k := 73) rfl 0).trans ((f2.I (f := 11) (k := 73) rfl 0).trans hS.2.2.2)
/-- while it records -/
def ExR (A : List Nm) (x : Mth) (R : Tr) (M : Mem) : Prop := TbT A x R M ∧ mI M 11 0 77 = 1 ∧ mI M 11 0 102 = Int32.ofNat (lr x)
theorem ExR.ex {A : List Nm} {x : Mth} {R : Tr} {M : Mem} (h : ExR A x R M) : EXt (ExR A x R) M := ⟨h, fun _ _ hf h => ⟨h.1.fr hf, (hf.I (f := 11) (k := 77) rfl 0).trans h.2.1, (hf.I (f := 11) (k := 102) rfl 0).trans h.2.2⟩⟩
theorem ct_checkR (h : TB G US A S W w br nq nl nf nk M) (hl : mL M 111 0 = 20 ∧ mL M 212 0 = 28 ∧ mL M 112 0 = 10) (hE : ExR A (gmt (gc W c) k) (noR (gmt (gc W c) k)) M) (hc : c < W.length) (hk : k < (gc W c).2.2.2.2.2.length) (hwf : wfM (gmt (gc W c) k)) (hp : (gc W c).2.1 ≠ []) (hne : co (gmt (gc W c) k) ≠ [])
    (hQ : ∀ M', TbT A (gmt (gc W c) k) (frmS W c (gmt (gc W c) k)) M' → ((chkM W c (gmt (gc W c) k)).1 ≠ 0 → mI M' 11 0 74 = Int32.ofNat (chkM W c (gmt (gc W c) k)).2) → Q (Int32.ofNat (chkM W c (gmt (gc W c) k)).1) M') : w_Model_check 0 (Int32.ofNat c) (Int32.ofNat (12 * c + k)) Q M := by
  have hms : tMs A S W w 0 nq nl nf nk M := h.1.1.1.2.2
  have h51 : W.length ≤ 51 := h.1.1.1.1.1.1.1.2.2.1
  have h12 := (hms.1.2 c hc).1.2
  have hm : 12 * c + k < 612 := by omega
  obtain ⟨q0, a1, a2, ⟨a3, a4⟩, -, -, -⟩ := hms.2.2 c hc k hk
  have a2 : mI M 150 w (12 * c + k) = Int32.ofNat (co (gmt (gc W c) k)).length := a2
  have a4 : (co (gmt (gc W c) k)).length ≤ 80 := a4
  have hr : mR M 11 0 45 = some (12, w) := h.1.1.1.1.2.1
  unfold w_Model_check
  refine ⟨w, hr, ?_⟩
  rw [oN_tnc (k := 12 * c + k) (by omega), a2, hms.1.1 150 (by omega) (by omega)]
  refine ⟨(vp_oN (by omega)).mpr hm, ?_⟩
  have c0 : (co (gmt (gc W c) k)).length ≠ 0 := fun z => hne (List.eq_nil_of_length_eq_zero z)
  refine itn (ne_oN (b := 0) c0 (by omega) (by omega)) (mf_w_Model_begin (Q := fun M' => Fr F_Model_begin M M' → _) (fun M' hf hp => hp hf) (ct_tbeginV h hl hE.2.1 hc hk hwf hp hne (fun M2 h2 hU h77' f2 => ⟨(co (gmt (gc W c) k)).length + 1, ?_⟩)))
  have loop : ∀ m a s R M, TE G US A S W w c k br nq nl nf nk M → TUx A (gmt (gc W c) k) s M → EXt (ExR A (gmt (gc W c) k) R) M → (co (gmt (gc W c) k)).length - a < m → a ≤ (co (gmt (gc W c) k)).length → chkM W c (gmt (gc W c) k) = allS W c (gmt (gc W c) k) ((co (gmt (gc W c) k)).length - a) a s → frmS W c (gmt (gc W c) k) = recS W c (gmt (gc W c) k) ((co (gmt (gc W c) k)).length - a) a s R → w_Model_check_L22 0 Q m (Int32.ofNat (12 * c + k)) (Int32.ofNat a) M := by
    intro m
    induction m with
    | zero => intro a s R M _ _ _ hn; exact absurd hn (by omega)
    | succ m ih =>
      intro a s R M h hU hE hn ha he hfr
      obtain ⟨q0, a1, a2, ⟨a3, a4'⟩, -, -, -⟩ := h.mc
      have a2 : mI M 150 w (12 * c + k) = Int32.ofNat (co (gmt (gc W c) k)).length := a2
      have hb := h.1.1.2.2.2
      unfold w_Model_check_L22
      refine ⟨w, h.r45, ?_⟩
      rw [oN_tnc (k := 12 * c + k) (by omega), a2, h.ml (by omega) (by omega)]
      refine ⟨(vp_oN (by omega)).mpr hm, ?_⟩
      by_cases ca : (co (gmt (gc W c) k)).length ≤ a
      · rw [show (co (gmt (gc W c) k)).length - a = 0 by omega] at he hfr
        have he : chkM W c (gmt (gc W c) k) = (0, a) := he
        have hfr : frmS W c (gmt (gc W c) k) = R := hfr
        rw [he, hfr] at hQ
        exact itp (le_oN ca (by omega)) (hQ M hE.1.1 (fun z => absurd rfl z))
      refine itn (nle_oN (by omega) (by omega)) ⟨w, h.r45, ?_⟩
      rw [a2, h.ml (by omega) (by omega), show Int32.ofNat (co (gmt (gc W c) k)).length - (1 : Int32) = Int32.ofNat ((co (gmt (gc W c) k)).length - 1) from oN_sub (b := 1) (by omega)]
      refine ⟨(vp_oN (by omega)).mpr hm, ?_⟩
      rw [show (co (gmt (gc W c) k)).length - a = ((co (gmt (gc W c) k)).length - (a + 1)) + 1 by omega] at he hfr
      unfold allS at he
      unfold recS at hfr
      rw [oneS_ent] at he
      have bad : ∀ r R' M', r ≠ 0 → r ≤ 60 → chkM W c (gmt (gc W c) k) = (r, a) → frmS W c (gmt (gc W c) k) = R' → TbT A (gmt (gc W c) k) R' M' → (if Int32.ofNat r ≤ 0 then w_Model_check_L22 0 Q m (Int32.ofNat (12 * c + k)) (Int32.ofNat a + 1) M' else Q (Int32.ofNat r) (sI M' 11 0 74 (Int32.ofNat a))) := fun r R' M' hr h60 e1 e2 y => by
        rw [e1, e2] at hQ
        have f : Fr (37342707584460419693698313736193650118626476740276183924904954812274655581496666575900668474697622739977533195118518224490436678336740497086377619315038235321093596386393383639419979000791751191962836728359147980010387133303790252110130218423387254848222575939099671365178113847087433744326861186978178126753713124232683247118597447612403270469740651638393137717645662801967068455402994632371866044809342351551802622051180366871881760361111817387423778037962757699492591635084116902512044684801365085943542732510100293126402909995444744840298473745937692505646002774124166805155356529477986465151574747691611272668672693511194708164501652600405189748557609946280729645910864876737363323952783409112942137916537189179110721813926898000720118581320553149167878626128780324505493137075348525062928890161904543059323490057038529687781316519947242535813520997845073098853063217840091281632568909621396789935716955605466231796556205598792534400223897800307505948474544642602026660087709302784) M' (sI M' 11 0 74 (Int32.ofNat a)) := Fr.wI rfl (Fr.rf _ _)
        exact itn (nle_oN (b := 0) (by omega) (by omega)) (hQ _ (y.fr f) (fun _ => by rw [mI_sI, if_pos ⟨rfl, rfl, rfl⟩]))
      have body : w_Model_check_j57 0 Q (w_Model_check_L22 0 Q m) (Int32.ofNat (12 * c + k)) (Int32.ofNat a) (b2 (decide (a + 1 = (co (gmt (gc W c) k)).length))) (Int32.ofNat a) M := by
        unfold w_Model_check_j57
        refine ct_oneE h hU hE a1 (by omega) (by omega) (fun r M' y yE => ?_) (fun y M1 e hE1 hS1 hX1 e149 => ?_)
        · have hone : oneS W c (gmt (gc W c) k) a s = .inl r := by rw [oneS_ent, y]
          rw [y] at he hfr
          exact bad r R M' (oneS_ne hone) (oneS_le hone) he hfr yE.1
        · rw [e] at he hfr
          dsimp only at he hfr
          unfold w_Model_checkOne_j197
          rw [hS1.2.2.2, hX1.1.2.1]
          refine itn (by show ¬ (1 : Int32) = 0; decide) (itn (by decide) (ct_record hX1.1.1 hE1.lr.2 hE1.sr.2 a4 hX1.1.2.2 ⟨hS1.1.1, hS1.1.2.1⟩ hS1.2.1.1 hS1.2.1.2 hS1.2.2.1.1 hS1.2.2.1.2.1 hS1.2.2.1.2.2 (by omega) (fun M2 f2 hT2 => ?_)))
          have hS2 : TS A (gmt (gc W c) k) y.1 y.2 true M2 := by
            obtain ⟨⟨m1, m2, m3⟩, ⟨k1, k2⟩, ⟨k3, k4, k5⟩, k6⟩ := hS1
            exact ⟨⟨(f2.L (f := 111) rfl 0).trans m1, (f2.L (f := 212) rfl 0).trans m2, (f2.L (f := 112) rfl 0).trans m3⟩, ⟨k1.fr f2 rfl rfl, k2⟩, ⟨k3.fr f2 rfl rfl, (f2.I (f := 11) (k := 72) rfl 0).trans k4, k5⟩, (f2.I (f := 11) (k := 73) rfl 0).trans k6⟩
          have hX2 : ExR A (gmt (gc W c) k) (R.set a (some y)) M2 := ⟨hT2, (f2.I (f := 11) (k := 77) rfl 0).trans hX1.1.2.1, (f2.I (f := 11) (k := 102) rfl 0).trans hX1.1.2.2⟩
          refine mk_w_Model_checkOne_j219 (M0 := M2) (Q := fun v M' => Fr FK1 M2 M' → (if v ≤ 0 then w_Model_check_L22 0 Q m (Int32.ofNat (12 * c + k)) (Int32.ofNat a + 1) M' else Q v (sI M' 11 0 74 (Int32.ofNat a)))) (fun v M' hf hp => hp hf) (Fr.rf _ _) (ct_step (hE1.fr f2) hS2 ((f2.Ia (f := 149) rfl rfl w _).trans e149) (by omega) (by omega) (fun r M' e2 f3 => ?_) (fun s' M' e2 hE3 hU3 f3 => ?_))
          · rw [e2] at he hfr
            have hone : oneS W c (gmt (gc W c) k) a s = .inl r := by rw [oneS_ent, e]; exact e2
            exact bad r _ M' (oneS_ne hone) (oneS_le hone) he hfr (hT2.fr f3)
          · rw [e2] at he hfr
            rw [show Int32.ofNat a + (1 : Int32) = Int32.ofNat (a + 1) from oN_add a 1]
            exact itp (by decide) (ih (a + 1) s' (R.set a (some y)) M' hE3 hU3 (ExR.ex ⟨hT2.fr f3, (f3.I (f := 11) (k := 77) rfl 0).trans hX2.2.1, (f3.I (f := 11) (k := 102) rfl 0).trans hX2.2.2⟩) (by omega) (by omega) he hfr)
      by_cases cl : a + 1 = (co (gmt (gc W c) k)).length
      · rw [decide_eq_true cl] at body
        exact itp (by congr 1; omega) body
      · rw [decide_eq_false cl] at body
        exact itn (ne_oN (by omega) (by omega) (by omega)) body
  exact loop _ 0 _ (noR (gmt (gc W c) k)) M2 h2 hU (ExR.ex ⟨hE.1.fr f2, h77', (f2.I (f := 11) (k := 102) rfl 0).trans hE.2.2⟩) (by omega) (by omega) (by rw [Nat.sub_zero]; rfl) (by rw [Nat.sub_zero]; rfl)
end
