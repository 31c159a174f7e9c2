/-! B: a line in the twin -/
set_option maxRecDepth 4000 in
theorem ct_takeLine {G : List Sl} {US : UST} {A : List Nm} {w R pl : Nat} {br : Int32} {z : Nat × Nat × Nat × Nat × Nat × Nat} {K : Nat × Nat × Nat × Nat} {st : PSt} {L : List Tok} {M0 M : Mem} {Q X : Mem → Prop} (h : LSt G US A w br z K (if st.1 = 0 then R else L.length + R) pl st M0 M) (hq : TQ A L L M) (hx : Gx G w) (hB : AT0 <+: A) (hz : lz L) (h2 : L.tail ≠ []) (hUL : UL US L) (hLl : L.length ≤ 1500) (hLn : ∀ t ∈ L, t.1 = 2 → t.2.1 ≠ []) (h99 : z.2.2.2.2.2 = 99) (hK : Kk K) (hpl : pl ≤ (hd L).2.2.2)
    (hX : ∀ e M', stp br st L = .inl e → ThT e M' → JE G US A w z M0 M' → rl M' sFr ≤ 20000 → X M')
    (hQ : ∀ st' M', stp br st L = .inr st' → LSt G US A w br z K R (hd L).2.2.2 st' M0 M' → Q M') : w_Model_takeLine 0 Q X M := by
  have hL : L ≠ [] := by obtain ⟨i, z, e, -⟩ := hz; rw [e]; simp
  have hsF : sFr ∈ G := hx.2.2.2.2.2
  have h1 := h.s51 (v := 99) hx
  have f1 : Fr (4451597641046097242080964295410352959469136803183100691426390983137447307288249322879394111001208155152503632917227533398918709556667863975331499494914798178803157375621006922652718901728600405688623992009061334134386436140989095224157597830699354988124677650821169777533783179174355714836938522693893686145986691025815397157501870109129341896741467909621374335008342600103267247128843621298297172166030687278724029308698221072182865185870148824146244292016358101307462648759379017652516923523111949675505487025988136902618755101614564042126950472109042704778433176770706987995547834572552021163889735661937150081237875641726816673815447402048729628152562373433200078715189084617777266973588873042218940009658001563443031527272093057718291113534039634366974666849229374468981401571672979004732238073576038248458324677591148577664055409425168339707079052668222558361657049398433122829505075171160315267529124689753798460549855899666849899318682885206640475806539612126591999541248) M (sI M 11 0 51 99) := Fr.wI rfl (Fr.rf _ _)
  have q1 := hq.fr f1
  have e51 : mI (sI M 11 0 51 99) 11 0 51 = Int32.ofNat 99 := by simp only [mI_sI, mI_sR, mI_sJ, mR_sI, mL_sI, mL_sR, mR_sR, Nat.reduceEqDiff, and_false, false_and, if_false, and_self, true_and, and_true, if_true]; rfl
  unfold w_Model_takeLine
  generalize sI M 11 0 51 99 = M1 at h1 q1 e51 ⊢
  clear f1 h hq
  obtain ⟨m, W, p⟩ := st
  obtain ⟨S, q0, nl0, nq, nl, nf, nk, NL, ⟨a1, a2, a3, a4, a5, a6⟩, b, c, d⟩ := h1
  dsimp only at a3 a5 a6 b
  have hTG : TG G M1 := a2.1.1
  rcases d with ⟨d1, d2, d3, ⟨d4, d5⟩, d6⟩ | ⟨d1, d2, d3, d4, d5, d6, ⟨d7, d8⟩, d9, d10⟩
  · dsimp only at d1 d2 d6
    subst d4; subst d5
    have h01 : m = 0 ∨ m = 1 := by omega
    rcases h01 with e | e
    · subst e
      rw [if_pos rfl] at b
      have hst : stp br (0, W, p) L = cLine br W L := by unfold stp; rw [if_pos rfl]
      rw [hst] at hX hQ
      unfold cLine at hX hQ
      rw [a3]
      refine itn (by decide) ?_
      unfold w_Model_takeLine_j67
      rw [a3]
      refine itp rfl (ct_cLn hx hz hLl hLn q1 hL d2 a1 a2 e51 a4 a6 d3 (fun e M' x y u v => hX e M' (by rw [x]) y u v) (fun bits own par fs t5 M' x y u v k l => ct_j171r v hx k u y l (fun M'' y1 y2 y3 => hX _ M'' (by rw [x]; dsimp only; rw [if_neg (by omega)]) y1 y2 y3)) (fun bits own par fs t5 M' x y u v k l i j r xb zz lo => ?_))
      refine ct_j171 u (hQ _ M' (by rw [x]; dsimp only; rw [if_pos y]) ⟨S, _, _, _, _, nf, nk, [], ⟨k, l, j, r, a5.addC lo (fun j hj => (d2.1.2.1.2 j hj).1.2) rfl zz, ?_⟩, b.nil _, c, Or.inl ⟨Nat.le_refl 1, v, xb, ⟨rfl, rfl⟩, fun _ => ⟨?_, ?_⟩⟩⟩)
      · show z.1 ≤ (W ++ [_]).length
        rw [List.length_append]; omega
      · show mI M' 11 0 53 = Int32.ofNat ((W ++ [_]).length - 1)
        rw [List.length_append]; exact i
      · show z.1 < (W ++ [_]).length
        rw [List.length_append, List.length_singleton]; omega
    · subst e
      rw [if_neg (by decide)] at b
      have hst : stp br (1, W, p) L = bLine br W L := rfl
      rw [hst] at hX hQ
      obtain ⟨d6, d7⟩ := d6 rfl
      rw [a3]
      refine itn (by decide) ?_
      exact ct_bLn ⟨q1, d2, a1, a2, by rw [h99]; exact e51, d6, d3⟩ hx hz hUL hLl h99 a3 a4 a5 d7 b c hX hQ
  · dsimp only at d1 d2 d3 d4 d5 d6 d7 d8 d10
    have hbn := d3.2.2.2
    have hm0 : m ≠ 0 := by omega
    rw [if_neg hm0] at b
    have hcl : W.length - 1 < W.length := by omega
    have hzc : z.1 ≤ W.length - 1 := by omega
    have hJ : JM G US A S W w (W.length - 1) br q0 nl0 nq nl nf nk p NL z L L M0 M1 := ⟨q1, d3, d4, a1, a2, by rw [h99]; exact e51⟩
    have hzb : z.2.1 ≤ nq ∧ z.2.2.1 ≤ nl ∧ z.2.2.2.1 ≤ nf ∧ z.2.2.2.2.1 ≤ nk := ⟨by have := c.1; omega, by have := c.2.1; omega, c.2.2.1, c.2.2.2⟩
    have hle : ∀ x ∈ NL, x.2.2.2.1 ≤ (hd L).2.2.2 := fun x hx' => Nat.le_trans (d9 x hx') hpl
    rcases d1 with e | e
    · subst e
      obtain ⟨g1, g2, g3⟩ := d10 rfl
      subst g3
      have hst : stp br (2, W, p) L = rLine W p L := rfl
      rw [hst] at hX hQ
      unfold rLine at hX hQ
      have rk : ∀ M', Fr F_Model_roomLine M1 M' → rl M' sFr ≤ 20000 := fun M' hf => by rw [rl_keep hf hTG hsF]; exact a4
      rw [a3]
      refine itn (by decide) ?_
      unfold w_Model_takeLine_j67
      rw [a3]
      refine itn (by decide) (itn (by decide) (itp rfl ?_))
      refine mf_w_Model_roomLine (Q := fun M' => Fr F_Model_roomLine M1 M' → w_Model_takeLine_j171 0 Q X M') (X := fun M' => Fr F_Model_roomLine M1 M' → X M') (fun M' hf hp => hp hf) (fun M' hf hp => hp hf) (ct_rLn hJ hx hcl d5 hzc hz h99 (fun e M' x y u hf => hX e M' (by rw [x]) y u (rk M' hf)) (fun a b' t M' x y u v k hf => ct_j171r u hx k v (by omega) (rk M' hf) (fun M'' y1 y2 y3 => hX _ M'' (by rw [x]; dsimp only; rw [if_pos y]) y1 y2 y3)) (fun a b' t t' M' x y u v hf => ?_))
      have ep : pSt p a b' = ((p.1.1, p.1.2.1, p.1.2.2.1, p.1.2.2.2.1, a, b', [], []), [], [], [], none) := by
        show ((p.1.1, p.1.2.1, p.1.2.2.1, p.1.2.2.2.1, a, b', p.1.2.2.2.2.2.2), p.2) = _
        rw [g1, g2]
      rw [ep] at u
      have e0 : p.2.1 = [] := by rw [g2]
      rw [e0] at d7 d8
      refine ct_j171 (h99 ▸ u.2.2.2.2.2) (hQ _ M' (by rw [x]; dsimp only; rw [if_neg y]) ⟨S, q0, nl0, nq, nl, nf, nk, [], ⟨u.2.2.2.1, u.2.2.2.2.1, v, rk M' hf, a5.fr hf, a6⟩, (b.less (Nat.le_add_left _ _)).nil _, c, Or.inr ⟨Or.inr rfl, d2, u.2.1, u.2.2.1, d5, NLk.nil _, ⟨d7, d8⟩, fun x hx' => absurd hx' (by simp), fun q => absurd (show (3 : Nat) = 2 from q) (by decide)⟩⟩)
    · subst e
      have hst : stp br (3, W, p) L = kLine br W p L := rfl
      rw [hst] at hX hQ
      have rk : ∀ M', Fr F_Model_codeLine M1 M' → rl M' sFr ≤ 20000 := fun M' hf => by rw [rl_keep hf hTG hsF]; exact a4
      have j67 : ((isWd nField L || (isWd nMethod L || isWd nEnd L)) && decide ((hd L.tail).1 ≠ 58)) = false → w_Model_takeLine_j67 0 Q X M1 := by
        intro ce
        rw [kLine_kcL ce] at hX hQ
        unfold w_Model_takeLine_j67
        rw [a3]
        refine itn (by decide) (itn (by decide) (itn (by decide) ?_))
        refine mf_w_Model_codeLine (Q := fun M' => Fr F_Model_codeLine M1 M' → w_Model_takeLine_j171 0 Q X M') (X := fun M' => Fr F_Model_codeLine M1 M' → X M') (fun M' hf hp => hp hf) (fun M' hf hp => hp hf) (ct_codeLine hJ hx hB hcl hz h2 hUL hLl h99 d7 d8 hK b hzb hzc d5 d6 hle (fun e M' x y u hf => hX e M' x y u (rk M' hf)) (fun M' x u k v hf => ct_j171r u hx k v (by omega) (rk M' hf) (fun M'' y1 y2 y3 => hX _ M'' x y1 y2 y3)) (fun p' S' nq' nl' nf' nk' NL' t M' x u y1 y2 y3 y4 y5 y6 y7 hf => ?_))
        exact ct_j171 (h99 ▸ u.2.2.2.2.2) (hQ _ M' x ⟨S', q0, nl0, nq', nl', nf', nk', NL', ⟨u.2.2.2.1, u.2.2.2.2.1, (hf.I (f := 11) (k := 52) rfl 0).trans a3, rk M' hf, a5.fr hf, a6⟩, y5, ⟨c.1, c.2.1, by omega, by omega⟩, Or.inr ⟨Or.inr rfl, d2, u.2.1, u.2.2.1, d5, y1, ⟨y2, y3⟩, y4, fun q => absurd (show (3 : Nat) = 2 from q) (by decide)⟩⟩)
      have j47 : (isWd nField L || (isWd nMethod L || isWd nEnd L)) = true → w_Model_takeLine_j47 0 Q X M1 := by
        intro ce
        obtain ⟨v1, e1, l1⟩ := q1.second h2
        unfold w_Model_takeLine_j47
        refine ⟨v1, ?_⟩
        rw [e1]
        by_cases c58 : (hd L.tail).1 = 58
        · exact itp (by rw [c58]; rfl) (j67 (by rw [c58]; simp))
        · refine itn (ne_oN (b := 58) c58 (by omega) (by omega)) ?_
          unfold kLine at hX hQ
          rw [if_pos (by rw [ce, decide_eq_true c58]; rfl)] at hX hQ
          have rk : ∀ M', Fr F_Model_endMethod M1 M' → rl M' sFr ≤ 20000 := fun M' hf => by rw [rl_keep hf hTG hsF]; exact a4
          refine mf_w_Model_endMethod (Q := fun M' => Fr F_Model_endMethod M1 M' → w_Model_takeLine_j67 0 Q X (sI M' 11 0 52 1)) (X := fun M' => Fr F_Model_endMethod M1 M' → X M') (fun M' hf hp => hp hf) (fun M' hf hp => hp hf) (ct_endMethod hJ hx (by omega) d5 hzc hL d6 c.1 c.2.1 d7 d8 (fun e M' x y u hf => hX e M' (by rw [x]) y u (rk M' hf)) (fun M' x u hf => ?_))
          rw [x] at hX hQ
          dsimp only at hX hQ
          have f6 : Fr (8903195282092194484161928590820705918938273606366201382852781966274894614576498645758788222002416310305007265834455066797837419113335727950662998989829596357606314751242013845305437803457200811377247984018122668268772872281978190448315195661398709976249355301642339555067566358348711429673877045387787372291973382051630794315003740218258683793482935819242748670016685200206534494257687242596594344332061374557448058617396442144365730371740297648292488584032716202614925297518758035305033847046223899351010974051976273805237510203229128084253900944218085409556866353541413975991095669145104042327779471323874300162475751283453633347630894804097459256305124746866400157430378169235554533947177746084437880019316003126886063054544186115436582227068079268733949333698458748937962803143345958009464476147152076496916649355182297155328110818850336679414158105336445116723314098796866245659010150342320630535058249379507596921099711799333699798637365770413280951613079224253183999082496) M' (sI M' 11 0 52 1) := Fr.wI rfl (Fr.rf _ _)
          have u2 := u.fr hx f6 (u.1.fr f6)
          have el := addM_len W (mthOf p)
          have u3 : JC G US A S (addM W (mthOf p)) w ((addM W (mthOf p)).length - 1) br nq nl nf nk z L L M0 (sI M' 11 0 52 1) := by rw [el]; exact u2
          refine ct_bLn u3 hx hz hUL hLl h99 (by simp only [mI_sI, mI_sR, mI_sJ, mR_sI, mL_sI, mL_sR, mR_sR, Nat.reduceEqDiff, and_false, false_and, if_false, and_self, true_and, and_true, if_true]) (by rw [rl_keep f6 u.2.2.2.1.1.1 hsF]; exact rk M' hf) (((a5.fr hf).fr f6) |>.addM (c := W.length - 1) (by omega)) (by rw [el]; exact d2) b hzb hX hQ
      rw [a3]
      refine itp rfl ?_
      have k13 := q1.1.2.1 (13, nField) (by simp [kF])
      have k14 := q1.1.2.1 (14, nMethod) (by simp [kF])
      have k19 := q1.1.2.1 (19, nEnd) (by simp [kF])
      simp only [] at k13 k14 k19
      rw [k13.1]
      refine ct_isWord q1 hL k13.2 ?_
      cases cf : isWd nField L with
      | true => exact itn (by decide) (j47 (by rw [cf]; rfl))
      | false =>
        refine itp rfl ?_
        rw [k14.1]
        refine ct_isWord q1 hL k14.2 ?_
        cases cm : isWd nMethod L with
        | true => exact itn (by decide) (j47 (by rw [cf, cm]; rfl))
        | false =>
          refine itp rfl ?_
          rw [k19.1]
          refine ct_isWord q1 hL k19.2 ?_
          cases ce : isWd nEnd L with
          | true => exact itn (by decide) (j47 (by rw [cf, cm, ce]; rfl))
          | false => exact itp rfl (j67 (by rw [cf, cm, ce]; rfl))
