/-! THE OPERATION call, in the works -/
section
variable {A A' : List Nm} {W : List Cls} {w k C B F K L n t : Nat} {br a : Int32} {nq nk np nh nr : Nat} {s : Ms} {M M' M0 : Mem} {Q : Int32 → Mem → Prop} {U : List Un} {l : Ln} {on : Nat → Bool} {tp : List Int32} {BB : List Nm}
theorem unR.ev {f : Nat} {u : Un} (h : unR W L f M u) (e : ∀ g k, 89 ≤ g → g ≤ 94 → mI M' g L k = mI M g L k) (e5 : ∀ k, mI M' 514 L k = mI M 514 L k) : unR W L f M' u := by
  cases u with
  | inl g =>
    obtain ⟨c, j, a, lo, st⟩ := g
    obtain ⟨⟨a1, a2, a3, a4⟩, b, c'⟩ := h
    refine ⟨⟨(e 89 _ (by omega) (by omega)).trans a1, (e 90 _ (by omega) (by omega)).trans a2, (e 91 _ (by omega) (by omega)).trans a3, (e 92 _ (by omega) (by omega)).trans a4⟩, fun k hk => ?_, fun k hk => ?_⟩
    · rw [e 94 _ (by omega) (by omega), e5]; exact b k hk
    · rw [e 94 _ (by omega) (by omega), e5]; exact c' k hk
  | inr g =>
    obtain ⟨k, own⟩ := g
    exact ⟨(e 92 _ (by omega) (by omega)).trans h.1, (e 93 _ (by omega) (by omega)).trans h.2⟩
theorem LU.ev (e : ∀ g k, 89 ≤ g → g ≤ 94 → mI M' g L k = mI M g L k) (e5 : ∀ k, mI M' 514 L k = mI M 514 L k) : ∀ {U : List Un}, LU W L M U → LU W L M' U
  | [], _ => trivial
  | _ :: _, h => ⟨h.1.ev e e5, LU.ev e e5 h.2⟩
theorem Fr.r89 {S : Nat} (hf : Fr S M M') (hS : okF S [89, 90, 91, 92, 93, 94, 514, 5089, 5090, 5091, 5092, 5093, 5094, 5095, 5514] = true := by rfl) : (∀ L g k, 89 ≤ g → g ≤ 94 → mI M' g L k = mI M g L k) ∧ (∀ L k, mI M' 514 L k = mI M 514 L k) ∧ ∀ L g, 89 ≤ g → g ≤ 95 ∨ g = 514 → mL M' g L = mL M g L := by
  have o := fun {b : Nat} (hb : b ∈ [89, 90, 91, 92, 93, 94, 514, 5089, 5090, 5091, 5092, 5093, 5094, 5095, 5514]) => okF_in hS hb
  refine ⟨fun L g k h1 h2 => ?_, fun L k => hf.Ia (f := 514) rfl (o (by decide)) L k, fun L g h1 h2 => ?_⟩
  · have : g = 89 ∨ g = 90 ∨ g = 91 ∨ g = 92 ∨ g = 93 ∨ g = 94 := by omega
    rcases this with z | z | z | z | z | z <;> rw [z]
    · exact hf.Ia (f := 89) rfl (o (by decide)) _ _
    · exact hf.Ia (f := 90) rfl (o (by decide)) _ _
    · exact hf.Ia (f := 91) rfl (o (by decide)) _ _
    · exact hf.Ia (f := 92) rfl (o (by decide)) _ _
    · exact hf.Ia (f := 93) rfl (o (by decide)) _ _
    · exact hf.Ia (f := 94) rfl (o (by decide)) _ _
  · have : g = 89 ∨ g = 90 ∨ g = 91 ∨ g = 92 ∨ g = 93 ∨ g = 94 ∨ g = 95 ∨ g = 514 := by omega
    rcases this with z | z | z | z | z | z | z | z <;> rw [z]
    · exact hf.L (f := 89) (o (by decide)) _
    · exact hf.L (f := 90) (o (by decide)) _
    · exact hf.L (f := 91) (o (by decide)) _
    · exact hf.L (f := 92) (o (by decide)) _
    · exact hf.L (f := 93) (o (by decide)) _
    · exact hf.L (f := 94) (o (by decide)) _
    · exact hf.L (f := 95) (o (by decide)) _
    · exact hf.L (f := 514) (o (by decide)) _
abbrev SCl : Nat := (271716135220527900227848059256329966269188730667858255327392016120657141234616989392099873673415990671747587681563989830198394294207379690529454629935343413390013355245820336758173284003347890887321079290688688028993127648613457188376465079728316569709133467229089190826320494784853893992588775710570043302951792560882614240707706882796225622952999022603347779978336993790166367451060162627202127365858250611173323060942239979344053982903995145334539095054254953888315785594939458954653248038395915823215990298915988864978609255190991192844770690275311579884583259531403119954746758478197117154250148990145490728290778168891335192912490326901253506369662587891360344436671406661922765621174368596586760963513154915660322679291904)
/-- a thread's line is another one -/
theorem RA.ln1 (ht : t < 3) (h : RA A W w br nq nk np nh nr C B F s M) (hf : Fr SCl M M') (h7 : ∀ i, i ≠ 3 * w + t → (∀ k, k < 20 → mI M' 7 i k = mI M 7 i k) ∧ ∀ k, mI M' 95 i k = mI M 95 i k) (hn : rN A W w t l M') : RA A W w br nq nk np nh nr C B F (yN s (up1 (zN s) t l)) M' := by
  obtain ⟨⟨a1, a2⟩, ⟨b1, b2'⟩, ⟨c1, c2⟩, ⟨d1, d2, d3⟩, ⟨e2, e3⟩, g⟩ := h
  refine ⟨⟨(a1.fr hf).1, a2.fr hf⟩, ⟨b1.fr hf, b2'.fr hf⟩, ⟨c1.fr hf, c2.fr hf (hf.ms rfl)⟩, ⟨d1.fr hf, d2.fr hf, d3.fr hf⟩, ⟨(hf.L (f := 700) rfl w).trans e2, fun t' ht => (hf.Ra (f := 700) rfl rfl w t').trans (e3 t' ht)⟩, fun t' ht' => ?_⟩
  show rN A W w t' (if t' = t then l else zN s t') M'
  by_cases e : t' = t
  · rw [if_pos e, e]; exact hn
  · rw [if_neg e]
    obtain ⟨r1, r2, r3⟩ := hf.r89
    obtain ⟨q1, q2⟩ := h7 (3 * w + t') (by omega)
    have gg := g t' ht'
    obtain ⟨⟨⟨a1, a2, a3, a4⟩, ⟨b1, b2', b3, b4⟩, ⟨c1, c2, c3, c4⟩, d, e'⟩, ⟨u1, u2, u3⟩, gR⟩ := gg
    refine ⟨⟨⟨fun f h1 h2 => (r3 _ f (by omega) (Or.inl (by omega))).trans (a1 f h1 h2), (r3 _ 94 (by omega) (Or.inl (by omega))).trans a2, (r3 _ 514 (by omega) (Or.inr rfl)).trans a3, (r3 _ 95 (by omega) (Or.inl (by omega))).trans a4⟩, ⟨(q1 0 (by omega)).trans b1, (q1 10 (by omega)).trans b2', (q1 11 (by omega)).trans b3, (q1 12 (by omega)).trans b4⟩, ⟨(q1 13 (by omega)).trans c1, (q1 14 (by omega)).trans c2, (q1 15 (by omega)).trans c3, (q1 16 (by omega)).trans c4⟩, ?_, fun z j hj => (q2 j).trans (e' z j hj)⟩, ⟨(q1 1 (by omega)).trans u1, (q1 2 (by omega)).trans u2, LU.ev (r1 _) (r2 _) u3⟩, fun z => (gR z).fr hf⟩
    unfold rW at *
    rw [q1 18 (by omega), q1 19 (by omega)]; exact d
/-- a line was read -/
theorem RA.tk (ht : t < 4) (h : RA A W w br nq nk np nh nr C B F s M) (hp : A <+: A') (hl : A'.length ≤ 200000) (hf : Fr F_Works_isTaken M M') (hT : Tk w t M M') (hoff : t < 3 → lSt (zN s t) ≠ 1) : RA A' W w br nq nk np nh nr C B F s M' := by
  have hx : LoR w (bA W.length (allF W).length (allM W).length nq nk np nh nr) M M' := LoR.of hf rfl rfl ht hT
  obtain ⟨⟨⟨a1, a2, a3, a4, a5⟩, aS⟩, ⟨b1, b2'⟩, ⟨c1, c2⟩, ⟨d1, d2, d3⟩, ⟨e2, e3⟩, g⟩ := h
  refine ⟨⟨⟨a1.call hx hp hl, fun c hc => (hf.Ia (f := 45) rfl rfl w c).trans (a2 c hc), ⟨(hf.I (f := 5) (k := 56) rfl w).trans a3.1, (hf.I (f := 5) (k := 57) rfl w).trans a3.2.1, (hf.I (f := 5) (k := 58) rfl w).trans a3.2.2⟩, fun d hd hl1 => ?_, ?_⟩, aS.fr hf⟩, ⟨b1.fr hf, b2'.fr hf⟩, ⟨c1.fr hf, c2.fr hf (hf.ms rfl)⟩, ⟨d1.fr hf, d2.fr hf, d3.fr hf⟩, ⟨(hf.L (f := 700) rfl w).trans e2, fun t' ht => (hf.Ra (f := 700) rfl rfl w t').trans (e3 t' ht)⟩, fun t' ht' => ?_⟩
  · obtain ⟨x, y, z⟩ := a4 d hd hl1
    exact ⟨(hf.Ia (f := 47) rfl rfl w d).trans x, (hf.Ia (f := 48) rfl rfl w d).trans y, fun f hf' hs => (hf.Ia (f := 53) rfl rfl w _).trans (z f hf' hs)⟩
  · obtain ⟨q1, q2, q3, q4, q5, q6⟩ := a5
    exact ⟨(hf.L (f := 515) rfl 0).trans q1, (hf.L (f := 97) rfl 0).trans q2, (hf.L (f := 31) rfl 0).trans q3, (hf.L (f := 32) rfl 0).trans q4, (hf.I (f := 4) (k := 9) rfl 0).trans q5, (hf.I (f := 4) (k := 10) rfl 0).trans q6⟩
  · obtain ⟨r1, r2, r3⟩ := hf.r89
    have gg := g t' ht'
    obtain ⟨⟨⟨a1, a2, a3, a4⟩, ⟨b1, b2', b3, b4⟩, ⟨c1, c2, c3, c4⟩, d, e'⟩, ⟨u1, u2, u3⟩, gR⟩ := gg
    refine ⟨⟨⟨fun f h1 h2 => (r3 _ f (by omega) (Or.inl (by omega))).trans (a1 f h1 h2), (r3 _ 94 (by omega) (Or.inl (by omega))).trans a2, (r3 _ 514 (by omega) (Or.inr rfl)).trans a3, (r3 _ 95 (by omega) (Or.inl (by omega))).trans a4⟩, ⟨(hf.I (f := 7) (k := 0) rfl _).trans b1, (hf.I (f := 7) (k := 10) rfl _).trans b2', (hf.I (f := 7) (k := 11) rfl _).trans b3, (hf.I (f := 7) (k := 12) rfl _).trans b4⟩, ⟨(hf.I (f := 7) (k := 13) rfl _).trans c1, (hf.I (f := 7) (k := 14) rfl _).trans c2, (hf.I (f := 7) (k := 15) rfl _).trans c3, (hf.I (f := 7) (k := 16) rfl _).trans c4⟩, ?_, fun z j hj => (hf.Ia (f := 95) rfl rfl _ j).trans (e' z j hj)⟩, ⟨(hf.I (f := 7) (k := 1) rfl _).trans u1, (hf.I (f := 7) (k := 2) rfl _).trans u2, LU.ev (r1 _) (r2 _) u3⟩, fun z => ?_⟩
    · unfold rW at *
      rw [hf.I (f := 7) (k := 18) rfl, hf.I (f := 7) (k := 19) rfl]; exact d
    · have hne : t' ≠ t := fun q => hoff (by omega) (q ▸ z)
      obtain ⟨⟨⟨x1, y1⟩, ⟨x2, y2⟩, ⟨x3, y3⟩, x4, x5⟩, b, c, d⟩ := gR z
      have e7 : ∀ j, j < 4 → mI M' 76 w (4 * t' + j) = mI M 76 w (4 * t' + j) := fun j hj => hT.1 w _ (by omega)
      have e70 : mI M' 76 w (4 * t') = mI M 76 w (4 * t') := hT.1 w _ (by omega)
      refine ⟨cRf.pre ⟨⟨e70.trans x1, y1⟩, ⟨(e7 1 (by omega)).trans x2, y2⟩, ⟨(e7 2 (by omega)).trans x3, y3⟩, (e7 3 (by omega)).trans x4, fun i h1 h2 => ⟨(hT.2.1 (2 * w + 2) (6 * t' + i) (by omega) (by omega)).trans (x5 i h1 h2).1, (x5 i h1 h2).2⟩⟩ hp, b, by rw [hf.L (f := 76) rfl]; exact c, by rw [hf.L (f := 211) rfl]; exact d⟩
/-- the numbers of a call, and noughts -/
abbrev cvl (x : Nm × Nm × Kd × List Int32) : List Int32 := x.2.2.2 ++ List.replicate (6 - x.2.2.2.length) 0
abbrev newL (x : Nm × Nm × Kd × List Int32) (vals : List Int32) : Ln := (true, 1, 0, (0, 0, -2, 0), (x.1, (x.2.1, kNs x.2.2.2.length, x.2.2.1, 0, 0, 0, [], []), vals), none, [])
theorem pRes_kdO {ts t2 : List Tok} {κ : Kd} (h : pRes ts = .inr (κ, t2)) : kdOk κ := by
  unfold pRes at h
  split at h
  · cases h; exact Or.inr (Or.inr (Or.inl rfl))
  · unfold pType at h
    split at h
    · cases h; exact Or.inl rfl
    · split at h
      · cases h; exact Or.inr (Or.inl rfl)
      · split at h
        · cases h
        · cases h; exact Or.inr (Or.inr (Or.inr rfl))
theorem pCall_kd {ts : List Tok} {x : Nm × Nm × Kd × List Int32} (h : pCall ts = .inr x) : kdOk x.2.2.1 := by
  unfold pCall at h
  split at h
  · cases h
  · unfold pC1 at h
    split at h
    · cases h
    · unfold pC2 at h
      split at h
      · cases h
      · unfold pC3 at h
        split at h
        · cases h
        · split at h
          · cases h
          · unfold pCall2 at h
            split at h
            · cases h
            · rename_i hr
              split at h
              · cases h
              · split at h
                · cases h
                · cases h; exact pRes_kdO hr
theorem takO_in {α : Type} {pf : List Tok → (Nat × Nat) ⊕ α} {n : Nat} {ls : List (List Tok)} {x : α} (h : takO pf n ls = .inr x) : ∃ l, ls = [l] ∧ pf l = .inr x := by
  unfold takO at h
  cases ls with
  | nil => cases h
  | cons l r =>
    dsimp only at h
    split at h
    · cases h
    · rename_i y e
      split at h
      · cases h; exact ⟨l, rfl, e⟩
      · cases h
theorem RA.m76 (h : RA A W w br nq nk np nh nr C B F s M) : mL M 76 w = L76 w ∧ mL M 211 (2 * w + 2) = L212 w := ⟨h.1.1.1.2.2.2.1.2.2.2.2.1, h.1.1.1.2.2.2.1.2.2.2.2.2.1⟩
theorem c_lcall (hl : mL M 30 0 = 6) (hl2 : mL M 95 L = 6) {Q : Mem → Prop} (hQ : ∀ M', Fr SCl M M' → (mI M' 7 L 1 = 0 ∧ mI M' 7 L 2 = 0 ∧ mI M' 7 L 10 = 1 ∧ mI M' 7 L 11 = 1 ∧ mI M' 7 L 12 = 0) → (mI M' 7 L 13 = 0 ∧ mI M' 7 L 14 = 0 ∧ mI M' 7 L 15 = -2 ∧ mI M' 7 L 16 = 0 ∧ mI M' 7 L 18 = 0 ∧ mI M' 7 L 19 = -1) → mI M' 7 L 0 = mI M 7 L 0 → (∀ i, i ≠ L → (∀ k, k < 20 → mI M' 7 i k = mI M 7 i k) ∧ ∀ k, mI M' 95 i k = mI M 95 i k) → (∀ k, k < 6 → mI M' 95 L k = mI M 30 0 k) → Q M') : w_Line_call L 0 Q M := by
  unfold w_Line_call
  refine c_clear (fun M1 hf hc h0 hi => ?_)
  have t0 : (0 : Int32).toNatClampNeg = 0 := rfl
  have t6 : (6 : Int32).toNatClampNeg = 6 := rfl
  rw [t0, t6]
  refine ⟨by decide, by decide, by decide, by rw [hf.L (f := 30) rfl, hl]; omega, by rw [hf.L (f := 95) rfl, hl2]; omega, _, rfl, Or.inr rfl, hQ _ ?_ ?_ ?_ ?_ ?_ ?_⟩
  · exact Fr.wI rfl (Fr.wI rfl (Fr.wcp rfl rfl (hf.sub rfl)))
  · obtain ⟨⟨c1, c2, c3, c4, c5⟩, -⟩ := hc
    refine ⟨?_, ?_, ?_, ?_, ?_⟩
    · rw [mI_sI, if_neg (fun z => absurd z.2.2 (by decide)), mI_sI, if_neg (fun z => absurd z.2.2 (by decide))]; exact c1
    · rw [mI_sI, if_neg (fun z => absurd z.2.2 (by decide)), mI_sI, if_neg (fun z => absurd z.2.2 (by decide))]; exact c2
    · rw [mI_sI, if_neg (fun z => absurd z.2.2 (by decide)), mI_sI, if_pos ⟨rfl, rfl, rfl⟩]
    · rw [mI_sI, if_pos ⟨rfl, rfl, rfl⟩]
    · rw [mI_sI, if_neg (fun z => absurd z.2.2 (by decide)), mI_sI, if_neg (fun z => absurd z.2.2 (by decide))]; exact c5
  · obtain ⟨-, c1, c2, c3, c4, c5, c6⟩ := hc
    refine ⟨?_, ?_, ?_, ?_, ?_, ?_⟩
    · rw [mI_sI, if_neg (fun z => absurd z.2.2 (by decide)), mI_sI, if_neg (fun z => absurd z.2.2 (by decide))]; exact c1
    · rw [mI_sI, if_neg (fun z => absurd z.2.2 (by decide)), mI_sI, if_neg (fun z => absurd z.2.2 (by decide))]; exact c2
    · rw [mI_sI, if_neg (fun z => absurd z.2.2 (by decide)), mI_sI, if_neg (fun z => absurd z.2.2 (by decide))]; exact c3
    · rw [mI_sI, if_neg (fun z => absurd z.2.2 (by decide)), mI_sI, if_neg (fun z => absurd z.2.2 (by decide))]; exact c4
    · rw [mI_sI, if_neg (fun z => absurd z.2.2 (by decide)), mI_sI, if_neg (fun z => absurd z.2.2 (by decide))]; exact c5
    · rw [mI_sI, if_neg (fun z => absurd z.2.2 (by decide)), mI_sI, if_neg (fun z => absurd z.2.2 (by decide))]; exact c6
  · rw [mI_sI, if_neg (fun z => absurd z.2.2 (by decide)), mI_sI, if_neg (fun z => absurd z.2.2 (by decide))]; exact h0
  · refine fun i hne => ⟨fun k _ => ?_, fun k => ?_⟩
    · rw [mI_sI, if_neg (fun z => hne z.2.1), mI_sI, if_neg (fun z => hne z.2.1)]; exact hi i hne k
    · show mI (cpI M1 30 0 0 95 L 0 6) 95 i k = _
      rw [mI_cpI, if_neg (fun z => hne z.2)]; exact hf.Ia (f := 95) rfl rfl i k
  · intro k hk
    show mI (cpI M1 30 0 0 95 L 0 6) 95 L k = _
    rw [mI_cpI, if_pos ⟨rfl, rfl⟩, if_pos ⟨Nat.zero_le _, by omega⟩, Nat.sub_zero, Nat.zero_add]; exact hf.Ia (f := 30) rfl rfl 0 k
end
