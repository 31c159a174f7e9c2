/-! SMALL OPERATIONS (printed by gen/ob.py) -/
def chkO (s : LkS) (a : Int32) : Int32 := if a = 0 then s.2.1 else if a = 1 then s.2.2.1 else if a = 2 then s.2.2.2 else -1
def qntO (a : Int32) (s : Ms) : Int32 × Ms := if a < 1 ∨ 200 < a then (-1, s) else (Int32.ofNat (zT s).2.2, yT s ((zT s).1, (zT s).2.1, a.toNatClampNeg))
def staO (a : Int32) (s : Ms) : Int32 := if a < 0 ∨ Int32.ofNat (zB s).length ≤ a then -1 else Int32.ofNat ((zB s).getD a.toNatClampNeg 0)
def donO (a : Int32) (s : Ms) : Int32 := if a < 0 ∨ 61 < a then -1 else zD s a.toNatClampNeg
theorem i61 {a : Int32} {m : Nat} (hm : m < 2147483648) (h1 : ¬ a < 0) (h2 : ¬ Int32.ofNat m < a) : ∃ n, n ≤ m ∧ a = Int32.ofNat n ∧ a.toNatClampNeg = n := by
  refine ⟨a.toNatClampNeg, ?_, (tnc_oN h1).symm, rfl⟩
  rw [Int32.lt_iff_toInt_lt, oN_toInt hm] at h2
  show (a.toInt).toNat ≤ m
  omega
section
variable {A : List Nm} {W : List Cls} {k C B F K : Nat} {br a : Int32} {nq nk np nh nr : Nat} {s : Ms} {M M' : Mem} {Q : Int32 → Mem → Prop} {on : Nat → Bool}
theorem cOn.at (hOn : cOn on M) (hk : k < 3) (hon : on k = true) : vp_in (Int32.ofNat k) (mL M 702 0) ∧ mR M 702 0 (Int32.ofNat k).toNatClampNeg = some (5, k + 1) := by
  refine ⟨by rw [hOn.1]; exact (vp_oN (by omega)).mpr hk, ?_⟩
  rw [oN_tnc (k := k) (by omega), hOn.2 k hk, hon]; rfl
theorem tOn.at (hOn : tOn on M) (hk : k < 3) : vp_in (Int32.ofNat k) (mL M 703 0) ∧ mR M 703 0 (Int32.ofNat k).toNatClampNeg = some (12, k) := by
  refine ⟨by rw [hOn.1]; exact (vp_oN (by omega)).mpr (by omega), ?_⟩
  rw [oN_tnc (k := k) (by omega)]; exact (hOn.2 k hk).1
theorem c_classes (hk : k < 3) (hOn : cOn on M) (hon : on k = true) (h : RA A W (k + 1) br nq nk np nh nr C B F s M) (hQ : Q (Int32.ofNat W.length - 21) M) : w_Works_classes 0 (Int32.ofNat k) Q M := by
  unfold w_Works_classes
  refine c_isWorld hOn (fun j hj e _ _ => ?_) (fun q => by rw [wOf_k hk, hon] at q; cases q)
  refine itn (by decide) ?_
  obtain ⟨a1, a2⟩ := hOn.at hk hon
  refine ⟨a1, k + 1, a2, ?_⟩
  rw [h.1.1.1.1.1.1.1.1]; exact hQ
theorem c_drop (hk : k < 3) (hOn : cOn on M) (hon : on k = true) (h : RA A W (k + 1) br nq nk np nh nr C B F s M) (hQ : ∀ M', cOn (up1 on k false) M' → Fr (21040543606193494028963959531520514662201359211292695437993123612274928617188323288454666145110353804907931875424712870852077729000735215452511259082607523399820894684513778392766655031537290869085173006943125504) M M' → Q (Int32.ofNat W.length - 21) M') : w_Works_drop 0 (Int32.ofNat k) Q M := by
  unfold w_Works_drop
  refine c_isWorld hOn (fun j hj e _ _ => ?_) (fun q => by rw [wOf_k hk, hon] at q; cases q)
  refine itn (by decide) ?_
  obtain ⟨a1, a2⟩ := hOn.at hk hon
  refine ⟨a1, k + 1, a2, a1, _, rfl, ?_⟩
  rw [h.1.1.1.1.1.1.1.1, oN_tnc (k := k) (by omega)]
  refine hQ _ ⟨hOn.1, fun j hj => ?_⟩ (Fr.wRa rfl rfl (Fr.rf _ _))
  rw [mR_sR]
  by_cases e : j = k
  · rw [if_pos ⟨rfl, rfl, e⟩, e, up1_s]; rfl
  · rw [if_neg (fun z => e z.2.2), up1_o e]; exact hOn.2 j hj
theorem c_checked (hk : k < 3) (hOn : cOn on M) (hon : on k = true) (h : RA A W (k + 1) br nq nk np nh nr C B F s M) (hQ : Q (chkO (zL s) a) M) : w_Works_checked 0 (Int32.ofNat k) a Q M := by
  unfold w_Works_checked
  refine c_isWorld hOn (fun j hj e _ _ => ?_) (fun q => by rw [wOf_k hk, hon] at q; cases q)
  refine itn (by decide) ?_
  obtain ⟨a1, a2⟩ := hOn.at hk hon
  obtain ⟨e0, e1, e2⟩ := h.1.1.2.2.1
  refine ⟨a1, k + 1, a2, ?_⟩
  unfold chkO at hQ
  rw [e0, e1, e2]
  by_cases c0 : a = 0
  · rw [if_pos c0] at hQ; exact itp c0 hQ
  rw [if_neg c0] at hQ
  refine itn c0 ?_
  by_cases c1 : a = 1
  · rw [if_pos c1] at hQ; exact itp c1 hQ
  rw [if_neg c1] at hQ
  refine itn c1 ?_
  by_cases c2 : a = 2
  · rw [if_pos c2] at hQ; exact itp c2 hQ
  rw [if_neg c2] at hQ
  exact itn c2 hQ
theorem c_quantum (hk : k < 3) (hOn : cOn on M) (hon : on k = true) (h : RA A W (k + 1) br nq nk np nh nr C B F s M) (hQ : ∀ M', RA A W (k + 1) br nq nk np nh nr C B F (qntO a s).2 M' → Fr (5903919660856720940339594490949526945248264581332679100591084865914281191512315797509629348197557157530994030125985921909125059355041036767257853461321078161987844804453720627609584375956360905037307740101125638459933997552891325794394407337274144923695090565560837960927345787598432843181931855052376946523781643331175079621599929828745291778918545675562493488686894968422545761472873838598531794154787623490601947657738549830029121767294707254071408397394643388690317633689266712390680896047961120681899577949707698968435294147233940290008962077810350171501399906234290680918535850300850549911591142006210586090439955479656054161935239462725001677990746791084032) M M' → Q (qntO a s).1 M') : w_Works_quantum 0 (Int32.ofNat k) a Q M := by
  have hQ' : ∀ y, qntO a s = y → ∀ M', RA A W (k + 1) br nq nk np nh nr C B F y.2 M' → Fr (5903919660856720940339594490949526945248264581332679100591084865914281191512315797509629348197557157530994030125985921909125059355041036767257853461321078161987844804453720627609584375956360905037307740101125638459933997552891325794394407337274144923695090565560837960927345787598432843181931855052376946523781643331175079621599929828745291778918545675562493488686894968422545761472873838598531794154787623490601947657738549830029121767294707254071408397394643388690317633689266712390680896047961120681899577949707698968435294147233940290008962077810350171501399906234290680918535850300850549911591142006210586090439955479656054161935239462725001677990746791084032) M M' → Q y.1 M' := fun y hy => by rw [← hy]; exact hQ
  unfold qntO at hQ'
  unfold w_Works_quantum
  refine c_isWorld hOn (fun j hj e _ _ => ?_) (fun q => by rw [wOf_k hk, hon] at q; cases q)
  refine itn (by decide) ?_
  unfold w_Works_isIn
  by_cases c1 : a < 1
  · exact itp c1 (itp rfl (hQ' _ (if_pos (Or.inl c1)) M h (Fr.rf _ _)))
  refine itn c1 ?_
  by_cases c2 : 200 < a
  · exact itp c2 (itp rfl (hQ' _ (if_pos (Or.inr c2)) M h (Fr.rf _ _)))
  obtain ⟨a1, a2⟩ := hOn.at hk hon
  refine itn c2 (itn (by decide) ⟨a1, k + 1, a2, a1, k + 1, a2, ?_⟩)
  obtain ⟨t1, t2, t3⟩ := h.2.2.2.1.2.2
  rw [t3]
  have h0 : ¬ a < 0 := fun z => c1 (Int32.lt_trans z (by decide))
  have hf : Fr (5903919660856720940339594490949526945248264581332679100591084865914281191512315797509629348197557157530994030125985921909125059355041036767257853461321078161987844804453720627609584375956360905037307740101125638459933997552891325794394407337274144923695090565560837960927345787598432843181931855052376946523781643331175079621599929828745291778918545675562493488686894968422545761472873838598531794154787623490601947657738549830029121767294707254071408397394643388690317633689266712390680896047961120681899577949707698968435294147233940290008962077810350171501399906234290680918535850300850549911591142006210586090439955479656054161935239462725001677990746791084032) M (sI M 6 (k + 1) 5 a) := Fr.wI rfl (Fr.rf _ _)
  refine hQ' _ (if_neg (fun z => z.elim c1 c2)) _ ?_ hf
  obtain ⟨⟨b1, b2'⟩, ⟨c1', c2'⟩, ⟨d1, d2⟩, ⟨e1, e2, e3⟩, ⟨f1, f2⟩, g⟩ := h
  refine ⟨⟨(b1.fr hf).1, b2'.fr hf⟩, ⟨c1'.fr hf, c2'.fr hf⟩, ⟨d1.fr hf, d2.fr hf hf.ms⟩, ⟨e1.fr hf, e2.fr hf, ?_⟩, ⟨(hf.L (f := 700) rfl _).trans f1, fun t' ht => (hf.Ra (f := 700) rfl rfl _ t').trans (f2 t' ht)⟩, fun t' ht => (g t' ht).fr hf rfl⟩
  refine ⟨?_, ?_, ?_⟩
  · rw [mI_sI, if_neg (fun z => absurd z.2.2 (by decide))]; exact t1
  · rw [mI_sI, if_neg (fun z => absurd z.2.2 (by decide))]; exact t2
  · rw [mI_sI, if_pos ⟨rfl, rfl, rfl⟩]; exact (tnc_oN h0).symm
theorem c_started (hk : k < 3) (hOn : cOn on M) (hon : on k = true) (h : RA A W (k + 1) br nq nk np nh nr C B F s M) (h51 : (zB s).length ≤ 51) (hQ : Q (staO a s) M) : w_Works_started 0 (Int32.ofNat k) a Q M := by
  unfold w_Works_started
  refine c_isWorld hOn (fun j hj e _ _ => ?_) (fun q => by rw [wOf_k hk, hon] at q; cases q)
  refine itn (by decide) ?_
  obtain ⟨a1, a2⟩ := hOn.at hk hon
  obtain ⟨⟨l86, l85⟩, -, e26, e85⟩ := h.2.1.1
  refine ⟨a1, k + 1, a2, ?_⟩
  unfold staO at hQ
  unfold w_Works_isIn
  rw [e26]
  by_cases c0 : a < 0
  · rw [if_pos (Or.inl c0)] at hQ
    exact itp c0 (itp rfl hQ)
  refine itn c0 ?_
  by_cases c1 : Int32.ofNat (zB s).length ≤ a
  · rw [if_pos (Or.inr c1)] at hQ
    refine itp ?_ (itp rfl hQ)
    have hn := tnc_oN c0
    rw [← hn] at c1 ⊢
    have hb : a.toNatClampNeg < 2147483648 := by show (a.toInt).toNat < _; have := Int32.toInt_lt a; omega
    have c1 := (oN_le (by omega) hb).mp c1
    rcases Nat.eq_zero_or_pos (zB s).length with z | z
    · rw [z]
      exact Int32.lt_of_lt_of_le (show Int32.ofNat 0 - 1 < 0 by decide) (oN_zero_le hb)
    · rw [show Int32.ofNat (zB s).length - (1 : Int32) = Int32.ofNat ((zB s).length - 1) from sub_n (n := 1) z]
      exact (oN_lt (by omega) hb).mpr (by omega)
  · rw [if_neg (fun z => z.elim c0 c1)] at hQ
    have c1 := Int32.not_le.mp c1
    have hn := tnc_oN c0
    have hb : a.toNatClampNeg < 2147483648 := by show (a.toInt).toNat < _; have := Int32.toInt_lt a; omega
    have hlt : a.toNatClampNeg < (zB s).length := by
      rw [← hn] at c1
      exact (oN_lt hb (by omega)).mp c1
    refine itn (fun z => ?_) (itn (by decide) ⟨a1, k + 1, a2, ?_, ?_⟩)
    · rw [show Int32.ofNat (zB s).length - (1 : Int32) = Int32.ofNat ((zB s).length - 1) from sub_n (n := 1) (by omega), ← hn] at z
      have := (oN_lt (by omega) hb).mp z
      omega
    · rw [l85, ← hn]; exact (vp_oN hb).mpr (by omega)
    · rw [e85 _ hlt]; exact hQ
theorem c_done (hk : k < 3) (hOn : cOn on M) (hon : on k = true) (h : RA A W (k + 1) br nq nk np nh nr C B F s M) (hQ : Q (donO a s) M) : w_Works_done 0 (Int32.ofNat k) a Q M := by
  unfold w_Works_done
  refine c_isWorld hOn (fun j hj e _ _ => ?_) (fun q => by rw [wOf_k hk, hon] at q; cases q)
  refine itn (by decide) ?_
  obtain ⟨a1, a2⟩ := hOn.at hk hon
  obtain ⟨l88, e88, -⟩ := h.2.2.2.1.2.1
  unfold donO at hQ
  unfold w_Works_isIn
  by_cases c0 : a < 0
  · rw [if_pos (Or.inl c0)] at hQ
    exact itp c0 (itp rfl hQ)
  refine itn c0 ?_
  by_cases c1 : 61 < a
  · rw [if_pos (Or.inr c1)] at hQ
    exact itp c1 (itp rfl hQ)
  rw [if_neg (fun z => z.elim c0 c1)] at hQ
  obtain ⟨n, hn, en, en2⟩ := i61 (m := 61) (by decide) c0 c1
  refine itn c1 (itn (by decide) ⟨a1, k + 1, a2, by rw [l88, en]; exact (vp_oN (by omega)).mpr (by omega), ?_⟩)
  rw [en2, e88 n (by omega)]
  rw [en2] at hQ
  exact hQ
end
section
variable {G : List Sl} {US : UST} {A : List Nm} {S : List Sg} {W : List Cls} {k C B F K ud : Nat} {br a x : Int32} {nq nl nf nk : Nat} {s : Ms} {M M' : Mem} {Q : Int32 → Mem → Prop} {on : Nat → Bool}
theorem ct_classes (hk : k < 3) (hOn : tOn on M) (hon : on k = true) (h : TAx G US A S W k br nq nl nf nk B F x s M) (hQ : Q (Int32.ofNat W.length - 21) M) : w_Model_classes 0 (Int32.ofNat k) Q M := by
  unfold w_Model_classes
  refine ct_isWorld hOn (fun j hj e _ _ => ?_) (fun q => by rw [wOf_k hk, hon] at q; cases q)
  refine itn (by decide) ?_
  obtain ⟨a1, a2⟩ := hOn.at hk
  refine ⟨a1, k, a2, ?_⟩
  rw [show mI M 12 k 2 = Int32.ofNat W.length from h.1.1.cl.1.1.1]; exact hQ
theorem ct_drop (hk : k < 3) (hOn : tOn on M) (hon : on k = true) (h : TAx G US A S W k br nq nl nf nk B F x s M) (hQ : ∀ M', tOn (up1 on k false) M' → Fr (3176766231019168047779935388200097820433440940018864273811639933063724010036462572464536816452463822043693039747533696923500251937487517949404356825600544036344455908035583560540390217230299228602535954416742432484892734669356970162868285225878336857345442727250597155312251875886802639364567083582236778759931726123102495613076389466063225796848630163810544079872327896179184153761054749292796905880507931009486609892811110825603694618585322639248116766765050579745484946965056582381132478729923878282245619922116715577966205714978741578170013967068028294346726708507859037228305980369719464988185053860432163694086015799484788203870845452716919147023869426651895842082422654084581075172593123188508708387881668236955343499055473420964837200145534202872959710979570829211463259007604711111155717266691130748436466678936079838497378063205351871612003168426046789832815236181136338724542174324145370814195021543696092995150220967056346092858553590550584450399115760931106863321194276388088237585666814431669877909775110373376) M M' → Q (Int32.ofNat W.length - 21) M') : w_Model_drop 0 (Int32.ofNat k) Q M := by
  unfold w_Model_drop
  refine ct_isWorld hOn (fun j hj e _ _ => ?_) (fun q => by rw [wOf_k hk, hon] at q; cases q)
  refine itn (by decide) ?_
  obtain ⟨a1, a2⟩ := hOn.at hk
  refine ⟨a1, k, a2, Or.inl rfl, a1, k, a2, ?_⟩
  rw [show mI (sI M 12 k 0 0) 12 k 2 = Int32.ofNat W.length from by rw [mI_sI, if_neg (fun z => absurd z.2.2 (by decide))]; exact h.1.1.cl.1.1.1]
  refine hQ _ ⟨hOn.1, fun j hj => ⟨(hOn.2 j hj).1, ?_⟩⟩ (Fr.wI rfl (Fr.rf _ _))
  rw [mI_sI]
  by_cases e : j = k
  · rw [if_pos ⟨rfl, e, rfl⟩, e, up1_s]; rfl
  · rw [if_neg (fun z => e z.2.1), up1_o e]; exact (hOn.2 j hj).2
theorem ct_checked (hk : k < 3) (hOn : tOn on M) (hon : on k = true) (h : TAx G US A S W k br nq nl nf nk B F x s M) (hQ : Q (chkO (zL s) a) M) : w_Model_checked 0 (Int32.ofNat k) a Q M := by
  unfold w_Model_checked
  refine ct_isWorld hOn (fun j hj e _ _ => ?_) (fun q => by rw [wOf_k hk, hon] at q; cases q)
  refine itn (by decide) ?_
  obtain ⟨a1, a2⟩ := hOn.at hk
  obtain ⟨l3, e0, e1, e2⟩ := h.1.2.2.1
  have l3 : mL M 156 k = 3 := l3
  have e0 : mI M 156 k 0 = (zL s).2.1 := e0
  have e1 : mI M 156 k 1 = (zL s).2.2.1 := e1
  have e2 : mI M 156 k 2 = (zL s).2.2.2 := e2
  unfold chkO at hQ
  by_cases c0 : a < 0
  · rw [if_neg (fun z => by rw [z] at c0; exact absurd c0 (by decide)), if_neg (fun z => by rw [z] at c0; exact absurd c0 (by decide)), if_neg (fun z => by rw [z] at c0; exact absurd c0 (by decide))] at hQ
    exact itp c0 hQ
  refine itn c0 ?_
  by_cases c2 : 2 < a
  · rw [if_neg (fun z => by rw [z] at c2; exact absurd c2 (by decide)), if_neg (fun z => by rw [z] at c2; exact absurd c2 (by decide)), if_neg (fun z => by rw [z] at c2; exact absurd c2 (by decide))] at hQ
    exact itp c2 hQ
  obtain ⟨n, hn, en, en2⟩ := i61 (m := 2) (by decide) c0 c2
  refine itn c2 ⟨a1, k, a2, by rw [l3, en]; exact (vp_oN (by omega)).mpr (by omega), ?_⟩
  rw [en2]
  have : n = 0 ∨ n = 1 ∨ n = 2 := by omega
  rcases this with z | z | z <;> subst z
  · rw [if_pos (by rw [en]; rfl)] at hQ; rw [e0]; exact hQ
  · rw [if_neg (by rw [en]; decide), if_pos (by rw [en]; rfl)] at hQ; rw [e1]; exact hQ
  · rw [if_neg (by rw [en]; decide), if_neg (by rw [en]; decide), if_pos (by rw [en]; rfl)] at hQ; rw [e2]; exact hQ
theorem ct_done (hk : k < 3) (hOn : tOn on M) (hon : on k = true) (h : TAx G US A S W k br nq nl nf nk B F x s M) (hQ : Q (donO a s) M) : w_Model_done 0 (Int32.ofNat k) a Q M := by
  unfold w_Model_done
  refine ct_isWorld hOn (fun j hj e _ _ => ?_) (fun q => by rw [wOf_k hk, hon] at q; cases q)
  refine itn (by decide) ?_
  obtain ⟨a1, a2⟩ := hOn.at hk
  have l9 : mL M 169 k = 62 := h.2.2.2.1.2.1.1
  have e9 : ∀ o, o < 62 → mI M 169 k o = zD s o := h.2.2.2.1.2.1.2
  unfold donO at hQ
  by_cases c0 : a < 0
  · rw [if_pos (Or.inl c0)] at hQ
    exact itp c0 hQ
  refine itn c0 ?_
  by_cases c1 : 61 < a
  · rw [if_pos (Or.inr c1)] at hQ
    refine itp ?_ hQ
    rw [Int32.lt_iff_toInt_lt, show (61 : Int32).toInt = 61 from rfl] at c1
    rw [Int32.le_iff_toInt_le, show (62 : Int32).toInt = 62 from rfl]
    omega
  rw [if_neg (fun z => z.elim c0 c1)] at hQ
  obtain ⟨n, hn, en, en2⟩ := i61 (m := 61) (by decide) c0 c1
  refine itn (fun z => ?_) ⟨a1, k, a2, by rw [l9, en]; exact (vp_oN (by omega)).mpr (by omega), ?_⟩
  · rw [en] at z
    have := (oN_le (a := 62) (by omega) (by omega)).mp z
    omega
  rw [en2, e9 n (by omega)]
  rw [en2] at hQ
  exact hQ
theorem ct_started (hk : k < 3) (hOn : tOn on M) (hon : on k = true) (h : TAx G US A S W k br nq nl nf nk B F x s M) (h51 : (zB s).length ≤ 51) (hQ : Q (staO a s) M) : w_Model_started 0 (Int32.ofNat k) a Q M := by
  unfold w_Model_started
  refine ct_isWorld hOn (fun j hj e _ _ => ?_) (fun q => by rw [wOf_k hk, hon] at q; cases q)
  refine itn (by decide) ?_
  obtain ⟨a1, a2⟩ := hOn.at hk
  have l163 : mL M 163 k = 51 := h.2.1.1.1.2
  have e60 : mI M 12 k 60 = Int32.ofNat (zB s).length := h.2.1.1.2.2.1
  have e163 : ∀ i, i < (zB s).length → mI M 163 k i = Int32.ofNat ((zB s).getD i 0) := h.2.1.1.2.2.2
  unfold staO at hQ
  by_cases c0 : a < 0
  · rw [if_pos (Or.inl c0)] at hQ
    exact itp c0 hQ
  refine itn c0 ⟨a1, k, a2, ?_⟩
  rw [e60]
  by_cases c1 : Int32.ofNat (zB s).length ≤ a
  · rw [if_pos (Or.inr c1)] at hQ
    exact itp c1 hQ
  · rw [if_neg (fun z => z.elim c0 c1)] at hQ
    have c2 := Int32.not_le.mp c1
    have hn := tnc_oN c0
    have hb : a.toNatClampNeg < 2147483648 := by show (a.toInt).toNat < _; have := Int32.toInt_lt a; omega
    have hlt : a.toNatClampNeg < (zB s).length := by
      rw [← hn] at c2
      exact (oN_lt hb (by omega)).mp c2
    refine itn c1 ⟨a1, k, a2, ?_, ?_⟩
    · rw [l163, ← hn]; exact (vp_oN hb).mpr (by omega)
    · rw [e163 _ hlt]; exact hQ
theorem ct_quantum (hk : k < 3) (hOn : tOn on M) (hon : on k = true) (h : TAx G US A S W k br nq nl nf nk B F x s M) (hQ : ∀ M', TAx G US A S W k br nq nl nf nk B F x (qntO a s).2 M' → Fr (117201987291226933095298767891761853948347523382270317781114524539242166415126811349591799517601010192673524840213618918104342747016756940766614664987705595982116169598865211081364151235369344966293304103449848893125599291456297679088859698060143303239010782157985458035646102408629639019507193162231431387937132068019488523284684358750465415976737419149536012680816438970537135933566155393216302280738354848612108666323348518621113601642705983465061268912590012884560150050237045123943043945197983095274181851641343856853469168692082247573115945651552583719224941150611181938485704039562251117514664762352269821432327354617691270813881594899758251736888641013857792002802240471857877977057446299579825615263869950484205069542376340651964100405370392617611456698623943246937405123218499655540122901455064142539216481044293018224051109247168755272096967926342641464645965590291916662867231383421567357017980507214829054494057067532564199990814288414169870553367241347843889850879196305563470140691067581999398020884682258984796353524910608351232) M M' → Q (qntO a s).1 M') : w_Model_quantum 0 (Int32.ofNat k) a Q M := by
  have hQ' : ∀ y, qntO a s = y → ∀ M', TAx G US A S W k br nq nl nf nk B F x y.2 M' → Fr (117201987291226933095298767891761853948347523382270317781114524539242166415126811349591799517601010192673524840213618918104342747016756940766614664987705595982116169598865211081364151235369344966293304103449848893125599291456297679088859698060143303239010782157985458035646102408629639019507193162231431387937132068019488523284684358750465415976737419149536012680816438970537135933566155393216302280738354848612108666323348518621113601642705983465061268912590012884560150050237045123943043945197983095274181851641343856853469168692082247573115945651552583719224941150611181938485704039562251117514664762352269821432327354617691270813881594899758251736888641013857792002802240471857877977057446299579825615263869950484205069542376340651964100405370392617611456698623943246937405123218499655540122901455064142539216481044293018224051109247168755272096967926342641464645965590291916662867231383421567357017980507214829054494057067532564199990814288414169870553367241347843889850879196305563470140691067581999398020884682258984796353524910608351232) M M' → Q y.1 M' := fun y hy => by rw [← hy]; exact hQ
  unfold qntO at hQ'
  unfold w_Model_quantum
  refine ct_isWorld hOn (fun j hj e _ _ => ?_) (fun q => by rw [wOf_k hk, hon] at q; cases q)
  refine itn (by decide) ?_
  by_cases c1 : a < 1
  · exact itp c1 (hQ' _ (if_pos (Or.inl c1)) M h (Fr.rf _ _))
  refine itn c1 ?_
  by_cases c2 : 200 < a
  · exact itn (Int32.not_le.mpr c2) (hQ' _ (if_pos (Or.inr c2)) M h (Fr.rf _ _))
  obtain ⟨a1, a2⟩ := hOn.at hk
  refine itp (Int32.not_lt.mp c2) ⟨a1, k, a2, a1, k, a2, ?_⟩
  have h0 : ¬ a < 0 := fun z => c1 (Int32.lt_trans z (by decide))
  have hf0 : Fr (117201987291226933095298767891761853948347523382270317781114524539242166415126811349591799517601010192673524840213618918104342747016756940766614664987705595982116169598865211081364151235369344966293304103449848893125599291456297679088859698060143303239010782157985458035646102408629639019507193162231431387937132068019488523284684358750465415976737419149536012680816438970537135933566155393216302280738354848612108666323348518621113601642705983465061268912590012884560150050237045123943043945197983095274181851641343856853469168692082247573115945651552583719224941150611181938485704039562251117514664762352269821432327354617691270813881594899758251736888641013857792002802240471857877977057446299579825615263869950484205069542376340651964100405370392617611456698623943246937405123218499655540122901455064142539216481044293018224051109247168755272096967926342641464645965590291916662867231383421567357017980507214829054494057067532564199990814288414169870553367241347843889850879196305563470140691067581999398020884682258984796353524910608351232) M (sI M 12 k 65 a) := Fr.wI rfl (Fr.rf _ _)
  have hh : TA G US A S W k br nq nl nf nk B F x s (sR M 11 0 45 (some (12, k))) := h
  obtain ⟨t1, t2, t3⟩ := hh.2.2.2.1.2.2
  rw [show mI M 12 k 65 = Int32.ofNat (zT s).2.2 from t2]
  refine hQ' _ (if_neg (fun z => z.elim c1 c2)) _ ?_ hf0
  show TA G US A S W k br nq nl nf nk B F x _ (sI (sR M 11 0 45 (some (12, k))) 12 k 65 a)
  generalize sR M 11 0 45 (some (12, k)) = M1 at hh t1 t2 t3 ⊢
  have hf : Fr (117201987291226933095298767891761853948347523382270317781114524539242166415126811349591799517601010192673524840213618918104342747016756940766614664987705595982116169598865211081364151235369344966293304103449848893125599291456297679088859698060143303239010782157985458035646102408629639019507193162231431387937132068019488523284684358750465415976737419149536012680816438970537135933566155393216302280738354848612108666323348518621113601642705983465061268912590012884560150050237045123943043945197983095274181851641343856853469168692082247573115945651552583719224941150611181938485704039562251117514664762352269821432327354617691270813881594899758251736888641013857792002802240471857877977057446299579825615263869950484205069542376340651964100405370392617611456698623943246937405123218499655540122901455064142539216481044293018224051109247168755272096967926342641464645965590291916662867231383421567357017980507214829054494057067532564199990814288414169870553367241347843889850879196305563470140691067581999398020884682258984796353524910608351232) M1 (sI M1 12 k 65 a) := Fr.wI rfl (Fr.rf _ _)
  have hg := hh.ga
  obtain ⟨b1, ⟨c1', c2'⟩, ⟨d1, d2⟩, ⟨e1, e2, e3⟩, ⟨f1, f2⟩, ⟨m1, m2, m3⟩, g⟩ := hh
  have hr := hf.rsl hg
  refine ⟨b1.mfr hf, ⟨c1'.fr hf, c2'.fr hf⟩, ⟨d1.fr hf, d2.fr hg hf⟩, ⟨e1.fr hf, e2.fr hf, ?_⟩, ⟨(hf.L (f := 704) rfl _).trans f1, fun t' ht => (hf.Ra (f := 704) rfl rfl _ t').trans (f2 t' ht)⟩, ⟨by rw [hr.1, hr.2]; exact m1, by rw [hf.L (f := 110) rfl]; exact ⟨m2, m3⟩⟩, fun t' ht => (g t' ht).eq (fun f k hl h23 => unO_I (R := (117201987291226933095298767891761853948347523382270317781114524539242166415126811349591799517601010192673524840213618918104342747016756940766614664987705595982116169598865211081364151235369344966293304103449848893125599291456297679088859698060143303239010782157985458035646102408629639019507193162231431387937132068019488523284684358750465415976737419149536012680816438970537135933566155393216302280738354848612108666323348518621113601642705983465061268912590012884560150050237045123943043945197983095274181851641343856853469168692082247573115945651552583719224941150611181938485704039562251117514664762352269821432327354617691270813881594899758251736888641013857792002802240471857877977057446299579825615263869950484205069542376340651964100405370392617611456698623943246937405123218499655540122901455064142539216481044293018224051109247168755272096967926342641464645965590291916662867231383421567357017980507214829054494057067532564199990814288414169870553367241347843889850879196305563470140691067581999398020884682258984796353524910608351232)) rfl hf hl h23 _) (fun f hl => unO_L (R := (117201987291226933095298767891761853948347523382270317781114524539242166415126811349591799517601010192673524840213618918104342747016756940766614664987705595982116169598865211081364151235369344966293304103449848893125599291456297679088859698060143303239010782157985458035646102408629639019507193162231431387937132068019488523284684358750465415976737419149536012680816438970537135933566155393216302280738354848612108666323348518621113601642705983465061268912590012884560150050237045123943043945197983095274181851641343856853469168692082247573115945651552583719224941150611181938485704039562251117514664762352269821432327354617691270813881594899758251736888641013857792002802240471857877977057446299579825615263869950484205069542376340651964100405370392617611456698623943246937405123218499655540122901455064142539216481044293018224051109247168755272096967926342641464645965590291916662867231383421567357017980507214829054494057067532564199990814288414169870553367241347843889850879196305563470140691067581999398020884682258984796353524910608351232)) rfl hf hl _)⟩
  refine ⟨?_, ?_, ?_⟩
  · rw [mI_sI, if_neg (fun z => absurd z.2.2 (by decide))]; exact t1
  · rw [mI_sI, if_pos ⟨rfl, rfl, rfl⟩]; exact (tnc_oN h0).symm
  · rw [mI_sI, if_neg (fun z => absurd z.2.2 (by decide))]; exact t3
end
