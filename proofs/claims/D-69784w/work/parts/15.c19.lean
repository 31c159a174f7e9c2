theorem ct_rLn {G : List Sl} {US : UST} {A : List Nm} {S : List Sg} {W : List Cls} {w c : Nat} {br : Int32} {q0 nl0 nq nl nf nk : Nat} {p : PM} {NL : List Nine} {z : Nat × Nat × Nat × Nat × Nat × Nat} {L : List Tok} {M0 M : Mem} {Q X : Mem → Prop} (h : JM G US A S W w c br q0 nl0 nq nl nf nk p NL z L L M0 M) (hx : Gx G w) (hc : c < W.length) (hm12 : (gc W c).2.2.2.2.2.length < 12) (hzc : z.1 ≤ c) (hz : lz L) (h99 : z.2.2.2.2.2 = 99)
    (hX : ∀ e M', pRoom L = .inl e → ThT e M' → JE G US A w z M0 M' → X M')
    (hQ0 : ∀ a b t M', pRoom L = .inr ((a, b), t) → b < Int32.ofNat (p.1.2.1.length + (if p.1.2.2.2.1 &&& 1 = 0 then 1 else 0)) → JE G US A w z M0 M' → mI M' 11 0 51 = Int32.ofNat 13 → PLc L M' → Q M')
    (hQ1 : ∀ a b t t' M', pRoom L = .inr ((a, b), t) → ¬ b < Int32.ofNat (p.1.2.1.length + (if p.1.2.2.2.1 &&& 1 = 0 then 1 else 0)) → JM G US A S W w c br q0 nl0 nq nl nf nk (pSt p a b) NL z L t' M0 M' → mI M' 11 0 52 = 3 → Q M') : w_Model_roomLine 0 Q X M := by
  have hL : L ≠ [] := by obtain ⟨i, z, e, -⟩ := hz; rw [e]; simp
  have hWl := h.2.1.1.1.1.1.1.2.2.1
  have tm : (Int32.ofNat (12 * c + (gc W c).2.2.2.2.2.length)).toNatClampNeg = 12 * c + (gc W c).2.2.2.2.2.length := oN_tnc (by omega)
  have vm : vp_in (Int32.ofNat (12 * c + (gc W c).2.2.2.2.2.length)) 612 := (vp_oN (by omega)).mpr (by omega)
  unfold w_Model_roomLine
  have k16 := h.1.1.2.1 (16, nRoom) (by simp [kF])
  simp only [] at k16
  rw [k16.1]
  refine mf_w_Model_needWord (Q := fun M' => isWd nRoom L = true ∧ TQ A L L.tail M') (X := fun M' => isWd nRoom L = false ∧ ThT (er L) M') (fun M1 hf1 hp1 => ?_) (fun M1 hf1 hp1 => hX _ M1 (by unfold pRoom; rw [if_neg (by rw [hp1.1]; decide)]) hp1.2 (h.je.fr hx hf1)) (ct_needWord h.1 hL k16.2 (fun M' a b => ⟨a, b⟩) (fun M' a b => ⟨a, b⟩))
  obtain ⟨c1, hq1⟩ := hp1
  have h1 := h.fr hx hf1 hq1
  have hn1 : L.tail ≠ [] := tl_ne h.1 hz hL (by rw [(of_decide_eq_true c1).1]; decide)
  unfold pRoom at hX hQ0 hQ1
  rw [if_pos c1] at hX hQ0 hQ1
  refine ⟨w, h1.2.1.1.1.2.1, ?_⟩
  have e54 := h1.2.2.1.1.1.2.2.1.2
  refine h1.num (lo := 0) (hi := 20) hx hz hn1 (fun a t2 M2 a2 n2 h2 => ?_) (fun e M' a b d => hX e M' (by rw [a]) b d)
  simp only [a2] at hX hQ0 hQ1
  have l147 : mL M2 147 w = 612 := h2.2.1.1.2.2.1.1 147 (by omega) (by omega)
  rw [e54, tm, l147]
  refine ⟨vm, ?_⟩
  have h3 := h2.room (f := 147) (v := a) (a := a) (b := p.1.2.2.2.2.2.1) hx hm12 hzc (Or.inl ⟨rfl, rfl, rfl⟩)
  have e54' : mI (sI M2 147 w (12 * c + (gc W c).2.2.2.2.2.length) a) 11 0 54 = Int32.ofNat (12 * c + (gc W c).2.2.2.2.2.length) := h3.2.2.1.1.1.2.2.1.2
  refine ⟨w, h3.2.1.1.1.2.1, ?_⟩
  rw [e54', tm]
  refine h3.num (lo := 0) (hi := 20) hx hz n2 (fun b t3 M3 a3 n3 h4 => ?_) (fun e M' a b d => hX e M' (by rw [a]) b d)
  simp only [a3] at hX hQ0 hQ1
  have l148 : mL M3 148 w = 612 := h4.2.1.1.2.2.1.1 148 (by omega) (by omega)
  rw [l148]
  refine ⟨vm, _, rfl, ?_⟩
  have h5 := h4.room (f := 148) (v := b) (a := a) (b := b) hx hm12 hzc (Or.inr ⟨rfl, rfl, rfl⟩)
  refine h5.need (b := 0) hx hz n3 (by omega) (fun M4 c0 _ h6 => ?_) (fun M' c0 x d => hX _ M' (by rw [if_neg c0]) x d)
  rw [if_pos c0] at hQ0 hQ1
  have h6 : JM G US A S W w c br q0 nl0 nq nl nf nk (pSt p a b) NL z L t3.tail M0 M4 := h6
  have ew : mR M4 11 0 45 = some (12, w) := h6.2.1.1.1.2.1
  obtain ⟨⟨hd1, ⟨hd2, hd3⟩, ⟨hd4, hd5, hd6⟩, hd7, hd8, hd9⟩, -, ⟨hd10, hd11⟩, -⟩ := h6.2.2.1.1.1
  have lL : ∀ f, 144 ≤ f → f ≤ 151 → mL M4 f w = 612 := fun f x y => h6.2.1.1.2.2.1.1 f x y
  refine ⟨w, ew, ?_⟩
  have e148 : mI M4 148 w (12 * c + (gc W c).2.2.2.2.2.length) = b := hd9
  rw [hd11, tm, lL 148 (by omega) (by omega), e148]
  refine ⟨vm, ?_⟩
  -- how many arguments
  have hU := h6.2.2.2.1.1
  have hix : S.idxOf (sg A p.1.2.1 p.1.2.2.1) < S.length := List.idxOf_lt_length_iff.mpr hd3
  have hgs : gs1 S (S.idxOf (sg A p.1.2.1 p.1.2.2.1)) = sg A p.1.2.1 p.1.2.2.1 := by
    show S.getD _ _ = _
    rw [List.getD_eq_getElem?_getD, List.getElem?_eq_getElem hix, List.getElem_idxOf]; rfl
  have hSl := hU.2.1.2.2.1
  have T4 := h6.2.2.2.2.1.1.1
  have hT := hU.2.2.1
  have ecnt : mI M4 300 (rdI M4 sC) (S.idxOf (sg A p.1.2.1 p.1.2.2.1)) = Int32.ofNat p.1.2.1.length := by
    have := (hU.2.2.2.2.1 _ hix).1.2.1
    rw [hgs] at this
    have e : (sg A p.1.2.1 p.1.2.2.1).1.length = p.1.2.1.length := by simp [sg]
    rw [e] at this; exact this
  have key : ∀ n, n ≤ 7 → n = p.1.2.1.length + (if p.1.2.2.2.1 &&& 1 = 0 then 1 else 0) → (if Int32.ofNat n ≤ b then (w_Model_roomLine_j82 0 Q X (0 : Int32) (13 : Int32) M4) else (w_Model_roomLine_j82 0 Q X (1 : Int32) (13 : Int32) M4)) := by
    intro n hn7 en
    rw [← en] at hQ0 hQ1
    have fin : ∀ s0 : Bool, s0 = decide (b < Int32.ofNat n) → w_Model_roomLine_j82 0 Q X (b2 s0) 13 M4 := by
      intro s0 hs0
      unfold w_Model_roomLine_j82
      refine h6.asks (rule := 13) hx (by omega) (by omega) (fun M5 h7 _ => ?_)
      have fr : Fr (8903195282092194484161928590820705918938273606366201382852781966274894614576498645758788222002416310305007265834455066797837419113335727950662998989829596357606314751242013845305437803457200811377247984018122668268772872281978190448315195661398709976249355301642339555067566358348711429673877045387787372291973382051630794315003740218258683793482935819242748670016685200206534494257687242596594344332061374557448058617396442144365730371740297648292488584032716202614925297518758035305033847046223899351010974051976273805237510203229128084253900944218085409556866353541413975991095669145104042327779471323874300162475751283453633347630894804097459256305124746866400157430378169235554533947177746084437880019316003126886063054544186115436582227068079268733949333698458748937962803143345958009464476147152076496916649355182297155328110818850336679414158105336445116723314098796866245659010150342320630535058249379507596921099711799333699798637365770413280951613079224253183999082496) M5 (sI M5 11 0 52 3) := Fr.wI rfl (Fr.rf _ _)
      have h8 := h7.fr hx fr (h7.1.fr fr)
      by_cases cb : b < Int32.ofNat n
      · have el : lst z.2.2.2.2.2 13 s0 = 13 := by rw [h99, hs0, decide_eq_true cb]; rfl
        refine hQ0 a b t3 _ rfl cb ?_ ?_ (h8.1.pl hL)
        · obtain ⟨S', y1, y2, y3⟩ := h8.je
          exact ⟨S', y1, y2, y3⟩
        · have := h8.2.2.2.2.2
          rw [this]; show Int32.ofNat (lst z.2.2.2.2.2 13 s0) = _; rw [el]
      · have e99 : zl z (lst z.2.2.2.2.2 13 s0) = z := by
          have : lst z.2.2.2.2.2 13 s0 = 99 := by rw [h99, hs0, decide_eq_false cb]; rfl
          rw [this, ← h99]
        rw [e99] at h8
        exact hQ1 a b t3 _ _ rfl cb h8 (by simp only [mI_sI, mI_sR, mI_sJ, mR_sI, mL_sI, mL_sR, mR_sR, Nat.reduceEqDiff, and_false, false_and, if_false, and_self, true_and, and_true, if_true])
    by_cases cb : b < Int32.ofNat n
    · exact itn (Int32.not_le.mpr cb) (fin true (decide_eq_true cb).symm)
    · exact itp (Int32.not_lt.mp cb) (fin false (decide_eq_false cb).symm)
  unfold w_Model_argumentsOf
  have hd6' : p.1.2.1.length ≤ 6 := hd6
  have e145 : mI M4 145 w (12 * c + (gc W c).2.2.2.2.2.length) = Int32.ofNat (S.idxOf (sg A p.1.2.1 p.1.2.2.1)) := hd2
  have e146 : mI M4 146 w (12 * c + (gc W c).2.2.2.2.2.length) = p.1.2.2.2.1 := hd7
  refine ⟨rdI M4 sC, (T4 sC hx.2.1.2.1).1.1, w, ew, ?_⟩
  rw [tm, lL 145 (by omega) (by omega), e145, oN_tnc (k := S.idxOf (sg A p.1.2.1 p.1.2.2.1)) (by omega), ecnt]
  refine ⟨vm, (vp_oN (by omega)).mpr (by show _ < rl M4 sC; omega), w, ew, ?_⟩
  rw [lL 146 (by omega) (by omega), e146]
  refine ⟨vm, ?_⟩
  dsimp only
  by_cases cf : p.1.2.2.2.1 &&& 1 = 0
  · refine itp cf ?_
    rw [lit32 1, oN_add]
    exact key _ (by omega) (by rw [if_pos cf])
  · refine itn cf ?_
    rw [lit32 0, oN_add]
    exact key _ (by omega) (by rw [if_neg cf])
