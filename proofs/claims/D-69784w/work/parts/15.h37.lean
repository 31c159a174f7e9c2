/-! THE OPERATION run (printed by gen/rn.py) -/
def topF : List Un → Option Fm
  | [] => none
  | .inl f :: _ => some f
  | .inr _ :: U => topF U
def lnO (s : Ms) (t : Nat) (a : Int32) : Int32 := if a = 0 then (if (zN s t).1 = false then -2 else if lSt (zN s t) = 1 then (if waitS s t = true then 4 else 1) else Int32.ofNat (lSt (zN s t))) else if a = 1 then Int32.ofNat (lSp (zN s t)) else if a = 2 then (lRs (zN s t)).1 else if a = 3 then (lRs (zN s t)).2.1 else if a = 4 then (lRs (zN s t)).2.2.1 else if a = 5 then (lRs (zN s t)).2.2.2 else if a = 6 then Int32.ofNat (frs (gU s t)) else if a = 7 then (match topF (gU s t) with | none => -2 | some f => Int32.ofNat f.1) else if a = 8 then (match topF (gU s t) with | none => -2 | some f => Int32.ofNat f.2.1) else if a = 9 then (match topF (gU s t) with | none => -2 | some f => Int32.ofNat f.2.2.1) else if a = 10 then Int32.ofNat (zH s).1 else if a = 11 then Int32.ofNat (zH s).2.1 else if a = 12 then Int32.ofNat (zB s).length else if a = 13 then Int32.ofNat (zT s).1 else -1
def runO (s : Ms) (b a : Int32) : Int32 := if b < 0 ∨ 2 < b then -1 else lnO s b.toNatClampNeg a
/-- threads that are not there -/
def NTs (s : Ms) : Prop := ∀ t, t < 3 → (zN s t).1 = false → (lSt (zN s t) = 0 ∧ lSp (zN s t) = 0) ∧ lRs (zN s t) = (0, 0, -2, 0) ∧ gU s t = []
section
variable {A : List Nm} {W : List Cls} {k C B F K t L : Nat} {br a b : Int32} {nq nk np nh nr : Nat} {s : Ms} {M M' : Mem} {Q : Int32 → Mem → Prop} {on : Nat → Bool} {U : List Un} {o : Option Kd}
theorem topF_ok : ∀ {U : List Un} {o : Option Kd}, UO W s t o U → ∀ f, topF U = some f → FmO W s f
  | [], _, _, f, e => by cases e
  | .inl g :: U, o, h, f, e => by cases e; exact h.1
  | .inr k :: U, o, h, f, e => topF_ok h.2.2 f e
theorem topF_frs : ∀ {U : List Un}, topF U = none ↔ frs U = 0
  | [] => ⟨fun _ => rfl, fun _ => rfl⟩
  | .inl g :: U => ⟨fun z => (by cases z), fun z => (by have z : frs U + 1 = 0 := z; omega)⟩
  | .inr k :: U => topF_frs (U := U)
theorem topF_un : ∀ {U : List Un} {f : Fm}, unT L M U → topF U = some f → mI M 173 L (frs U - 1) = Int32.ofNat (12 * f.1 + f.2.1) ∧ mI M 174 L (frs U - 1) = Int32.ofNat f.2.2.1
  | [], f, _, e => by cases e
  | .inl g :: U, f, h, e => by
    cases e
    exact ⟨h.1.2.1, h.1.2.2.1⟩
  | .inr k :: U, f, h, e => topF_un (U := U) h.2 e
theorem c_upm : ∀ (n : Nat) (U : List Un), U.length < n → LU W L M U → mL M 92 L = 91 → U.length ≤ 91 → (∀ k ∈ sts U, k < 51) → (topF U = none → Q (-1) M) → (∀ f i, topF U = some f → i < 91 → unR W L i M (.inl f) → Q (Int32.ofNat i) M) → w_Line_uppermost_L7 L Q n (Int32.ofNat U.length - 1) M
  | 0, U, hn, _, _, _, _, _, _ => absurd hn (by omega)
  | n + 1, [], _, _, _, _, _, h0, _ => by
    unfold w_Line_uppermost_L7
    exact itp (show Int32.ofNat 0 - 1 < 0 by decide) (h0 rfl)
  | n + 1, u :: U, hn, hL, l92, hl, hk, h0, h1 => by
    have hl : U.length + 1 ≤ 91 := hl
    have hn : U.length + 1 < n + 1 := hn
    have e : Int32.ofNat (u :: U).length - 1 = Int32.ofNat U.length := sub_n (x := U.length + 1) (n := 1) (by omega)
    rw [e]
    unfold w_Line_uppermost_L7
    refine itn (oN_nonneg (show U.length < 2147483648 by omega)) ⟨by rw [l92]; exact (vp_oN (by omega)).mpr (by omega), ?_⟩
    rw [oN_tnc (k := U.length) (by omega)]
    cases u with
    | inl f =>
      have e92 : mI M 92 L U.length = -1 := by obtain ⟨c, j, a, lo, st⟩ := f; exact hL.1.1.2.2.2
      rw [e92]
      exact itp (by decide) (h1 f U.length rfl (by omega) hL.1)
    | inr ko =>
      obtain ⟨k, own⟩ := ko
      have e92 : mI M 92 L U.length = Int32.ofNat k := hL.1.1
      have hk51 : k < 51 := hk k (List.mem_cons_self ..)
      rw [e92]
      refine itn (oN_nonneg (show k < 2147483648 by omega)) ?_
      rw [show Int32.ofNat U.length + (-1 : Int32) = Int32.ofNat U.length - 1 from (Int32.sub_eq_add_neg _ _).symm]
      exact c_upm n U (by omega) hL.2 l92 (by omega) (fun k hk' => hk k (List.mem_cons_of_mem _ hk')) h0 h1
theorem c_upr (hL : LU W L M U) (l92 : mL M 92 L = 91) (hl : U.length ≤ 91) (hk : ∀ k ∈ sts U, k < 51) (hQ : ∀ r, ((topF U = none ∧ r = -1) ∨ ∃ f i, topF U = some f ∧ i < 91 ∧ unR W L i M (.inl f) ∧ r = Int32.ofNat i) → Q r M) : w_Line_uppermost_L7 L Q (U.length + 1) (Int32.ofNat U.length - 1) M :=
  c_upm (U.length + 1) U (by omega) hL l92 hl hk (fun e => hQ (-1) (Or.inl ⟨e, rfl⟩)) (fun f i e hi hu => hQ (Int32.ofNat i) (Or.inr ⟨f, i, e, hi, hu, rfl⟩))
theorem MA.sts51 (hW : WO W) (h : MA W s) (ht : t < 3) : ∀ k ∈ sts (gU s t), k < 51 := fun k hk => by
  have := (((h.2.2.1 t ht).1.1).own k hk).1.2
  have := hW.2.2.2
  omega
/-- run, in the works -/
theorem c_run (hk : k < 3) (hOn : cOn on M) (hon : on k = true) (hW : WO W) (hA : MA W s) (h : RA A W (k + 1) br nq nk np nh nr C B F s M) (hQ : Q (runO s b a) M) : w_Works_run 0 (Int32.ofNat k) b a Q M := by
  unfold w_Works_run w_Works_isThread
  refine c_isWorld hOn (fun j hj e _ _ => ?_) (fun q => by rw [wOf_k hk, hon] at q; cases q)
  refine itn (by decide) ?_
  unfold runO at hQ
  unfold w_Works_isIn
  by_cases c0 : b < 0
  · rw [if_pos (Or.inl c0)] at hQ
    exact itp c0 (itp rfl (itp rfl hQ))
  refine itn c0 ?_
  by_cases c2 : 2 < b
  · rw [if_pos (Or.inr c2)] at hQ
    exact itp c2 (itp rfl (itp rfl hQ))
  rw [if_neg (fun z => z.elim c0 c2)] at hQ
  obtain ⟨t, hn, en, en2⟩ := i61 (m := 2) (by decide) c0 c2
  rw [en2] at hQ
  rw [en]
  have ht : t < 3 := by omega
  obtain ⟨a1, a2⟩ := hOn.at hk hon
  refine itn (by rw [← en]; exact c2) (itn (by decide) (itn (by decide) ⟨a1, k + 1, a2, by rw [h.2.2.2.2.1.1]; exact (vp_oN (by omega)).mpr ht, 3 * (k + 1) + t, ?_, ?_⟩))
  · rw [oN_tnc (k := t) (by omega)]; exact h.2.2.2.2.1.2 t ht
  obtain ⟨hL, ⟨u1, u2, hU⟩, -⟩ := h.2.2.2.2.2 t ht
  obtain ⟨⟨l89, -, -, -⟩, ⟨-, e10, e11, e12⟩, ⟨e13, e14, e15, e16⟩, -, -⟩ := id hL
  have hlen := (hA.2.2.1 t ht).1.len hW
  have hX := hA.2.1 t ht
  have h51 := hW.2.2.2
  have hcw := h.1.1.1
  have l46 : mL M 46 (k + 1) = 51 := h.1.1.1.2.2.2.1.2.2.2.2.2.2 46 (by omega) (by omega)
  unfold w_Line_uppermost
  rw [u1]
  refine ⟨(gU s t).length + 1, c_upr hU (l89 92 (by omega) (by omega)) hlen (hA.sts51 hW ht) (fun r hr => ?_)⟩
  unfold lnO at hQ
  have top : ∀ {X Y : Prop}, (topF (gU s t) = none → Y) → (∀ f i, topF (gU s t) = some f → i < 91 → unR W (3 * (k + 1) + t) i M (.inl f) → r = Int32.ofNat i → X) → (if 0 ≤ r then X else Y) := fun h0 h1 => by
    rcases hr with ⟨e, er⟩ | ⟨f, i, e, hi, hu, er⟩
    · exact itn (by rw [er]; decide) (h0 e)
    · exact itp (by rw [er]; exact oN_zero_le (by omega)) (h1 f i e hi hu er)
  by_cases c : a = 0
  · rw [if_pos c] at hQ
    refine itp c ?_
    rw [e10, e11]
    cases hb : (zN s t).1 with
    | false => rw [if_pos hb] at hQ; exact itp rfl hQ
    | true =>
      rw [if_neg (by rw [hb]; decide)] at hQ
      refine itn (by decide) ?_
      by_cases c1 : lSt (zN s t) = 1
      · rw [if_pos c1] at hQ
        refine itp (by rw [c1]; rfl) (c_waits h.2.2.1.1 h.2.2.1.2 h.2.1.1 l46 h51 hL hX ?_)
        cases ew : waitS s t with
        | false =>
          rw [if_neg (by rw [ew]; decide)] at hQ
          refine itp rfl ?_
          rw [e11, c1]; exact hQ
        | true =>
          rw [if_pos ew] at hQ
          exact itn (by decide) hQ
      · rw [if_neg c1] at hQ
        exact itn (ne_oN (b := 1) c1 (by have := hX.2.1.1; omega) (by omega)) hQ
  rw [if_neg c] at hQ
  refine itn c ?_
  by_cases c : a = 1
  · rw [if_pos c] at hQ
    refine itp c ?_
    rw [e12]; exact hQ
  rw [if_neg c] at hQ
  refine itn c ?_
  by_cases c : a = 2
  · rw [if_pos c] at hQ
    refine itp c ?_
    rw [e13]; exact hQ
  rw [if_neg c] at hQ
  refine itn c ?_
  by_cases c : a = 3
  · rw [if_pos c] at hQ
    refine itp c ?_
    rw [e14]; exact hQ
  rw [if_neg c] at hQ
  refine itn c ?_
  by_cases c : a = 4
  · rw [if_pos c] at hQ
    refine itp c ?_
    rw [e15]; exact hQ
  rw [if_neg c] at hQ
  refine itn c ?_
  by_cases c : a = 5
  · rw [if_pos c] at hQ
    refine itp c ?_
    rw [e16]; exact hQ
  rw [if_neg c] at hQ
  refine itn c ?_
  by_cases c : a = 6
  · rw [if_pos c] at hQ
    refine itp c ?_
    rw [u2]; exact hQ
  rw [if_neg c] at hQ
  refine itn c ?_
  by_cases c : a = 7
  · rw [if_pos c] at hQ
    refine itp c ?_
    refine top (fun e => by rw [e] at hQ; exact hQ) (fun f i e hi hu er => ?_)
    rw [e] at hQ
    obtain ⟨fc, fj, fa, flo, fst⟩ := f
    have hF := topF_ok (hA.2.2.1 t ht).1.1 _ e
    have hc1 : fc < W.length := hF.1.2.1
    have hj1 : fj < (gc W fc).2.2.2.2.2.length := hF.2.1
    obtain ⟨⟨x89, x90, -, -⟩, -, -⟩ := hu
    obtain ⟨m1, -, m3, m4, -⟩ := hcw.mo (e := 0) hc1
    have hH := (hcw.2.1.2.2 fc hc1 fj hj1).1
    rw [er]
    refine ⟨a1, k + 1, a2, by rw [l89 89 (by omega) (by omega)]; exact (vp_oN (by omega)).mpr hi, ?_⟩
    rw [oN_tnc (k := i) (by omega), x89, oN_tnc (k := moff W fc + fj) (by omega), hH.1]
    exact ⟨by rw [hcw.2.1.1.2.1 55 (by omega) (by omega)]; exact (vp_oN (by omega)).mpr (by omega), hQ⟩
  rw [if_neg c] at hQ
  refine itn c ?_
  by_cases c : a = 8
  · rw [if_pos c] at hQ
    refine itp c ?_
    refine top (fun e => by rw [e] at hQ; exact hQ) (fun f i e hi hu er => ?_)
    rw [e] at hQ
    obtain ⟨fc, fj, fa, flo, fst⟩ := f
    have hF := topF_ok (hA.2.2.1 t ht).1.1 _ e
    have hc1 : fc < W.length := hF.1.2.1
    have hj1 : fj < (gc W fc).2.2.2.2.2.length := hF.2.1
    obtain ⟨⟨x89, x90, -, -⟩, -, -⟩ := hu
    obtain ⟨m1, -, m3, m4, -⟩ := hcw.mo (e := 0) hc1
    have hH := (hcw.2.1.2.2 fc hc1 fj hj1).1
    rw [er]
    have v89 : vp_in (Int32.ofNat i) (mL M 89 (3 * (k + 1) + t)) := by rw [l89 89 (by omega) (by omega)]; exact (vp_oN (by omega)).mpr hi
    refine ⟨v89, a1, k + 1, a2, a1, k + 1, a2, v89, ?_⟩
    rw [oN_tnc (k := i) (by omega), x89, oN_tnc (k := moff W fc + fj) (by omega), hH.1, oN_tnc (k := fc) (by omega), m1, sub_n (by omega)]
    refine ⟨by rw [hcw.2.1.1.2.1 55 (by omega) (by omega)]; exact (vp_oN (by omega)).mpr (by omega), by rw [hcw.2.1.1.1.1]; exact (vp_oN (by omega)).mpr (by omega), ?_⟩
    rw [show moff W fc + fj - moff W fc = fj by omega]; exact hQ
  rw [if_neg c] at hQ
  refine itn c ?_
  by_cases c : a = 9
  · rw [if_pos c] at hQ
    refine itp c ?_
    refine top (fun e => by rw [e] at hQ; exact hQ) (fun f i e hi hu er => ?_)
    rw [e] at hQ
    obtain ⟨fc, fj, fa, flo, fst⟩ := f
    have hF := topF_ok (hA.2.2.1 t ht).1.1 _ e
    have hc1 : fc < W.length := hF.1.2.1
    have hj1 : fj < (gc W fc).2.2.2.2.2.length := hF.2.1
    obtain ⟨⟨x89, x90, -, -⟩, -, -⟩ := hu
    obtain ⟨m1, -, m3, m4, -⟩ := hcw.mo (e := 0) hc1
    have hH := (hcw.2.1.2.2 fc hc1 fj hj1).1
    rw [er]
    refine ⟨by rw [l89 90 (by omega) (by omega)]; exact (vp_oN (by omega)).mpr hi, ?_⟩
    rw [oN_tnc (k := i) (by omega), x90]; exact hQ
  rw [if_neg c] at hQ
  refine itn c ?_
  by_cases c : a = 10
  · rw [if_pos c] at hQ
    refine itp c ?_
    rw [h.2.2.1.1.2.1.1]; exact hQ
  rw [if_neg c] at hQ
  refine itn c ?_
  by_cases c : a = 11
  · rw [if_pos c] at hQ
    refine itp c ?_
    rw [h.2.2.1.1.2.1.2]; exact hQ
  rw [if_neg c] at hQ
  refine itn c ?_
  by_cases c : a = 12
  · rw [if_pos c] at hQ
    refine itp c ?_
    rw [h.2.1.1.2.2.1]; exact hQ
  rw [if_neg c] at hQ
  refine itn c ?_
  by_cases c : a = 13
  · rw [if_pos c] at hQ
    refine itp c ?_
    rw [h.2.2.2.1.2.2.1]; exact hQ
  rw [if_neg c] at hQ
  refine itn c ?_
  exact hQ
end
section
variable {G : List Sl} {US : UST} {A : List Nm} {S : List Sg} {W : List Cls} {k C B F K ud t : Nat} {br a b x : Int32} {nq nl nf nk : Nat} {s : Ms} {M M' : Mem} {Q : Int32 → Mem → Prop} {on : Nat → Bool}
theorem lnO_1 (h : NTs s) (ht : t < 3) (hb : (zN s t).1 = false) : lnO s t 0 = -2 ∧ lnO s t 1 = 0 ∧ lnO s t 2 = 0 ∧ lnO s t 3 = 0 ∧ lnO s t 4 = -2 ∧ lnO s t 5 = 0 ∧ lnO s t 6 = 0 ∧ lnO s t 7 = -2 ∧ lnO s t 8 = -2 ∧ lnO s t 9 = -2 := by
  obtain ⟨⟨h1, h2⟩, h3, h4⟩ := h t ht hb
  refine ⟨?_, ?_, ?_, ?_, ?_, ?_, ?_, ?_, ?_, ?_⟩
  · show (if (zN s t).1 = false then (-2 : Int32) else _) = -2
    rw [if_pos hb]
  · show Int32.ofNat (lSp (zN s t)) = 0
    rw [h2]; rfl
  · show (lRs (zN s t)).1 = 0
    rw [h3]
  · show (lRs (zN s t)).2.1 = 0
    rw [h3]
  · show (lRs (zN s t)).2.2.1 = -2
    rw [h3]
  · show (lRs (zN s t)).2.2.2 = 0
    rw [h3]
  · show Int32.ofNat (frs (gU s t)) = 0
    rw [h4]; rfl
  · show (match topF (gU s t) with | none => (-2 : Int32) | some f => Int32.ofNat f.1) = -2
    rw [h4]; rfl
  · show (match topF (gU s t) with | none => (-2 : Int32) | some f => Int32.ofNat f.2.1) = -2
    rw [h4]; rfl
  · show (match topF (gU s t) with | none => (-2 : Int32) | some f => Int32.ofNat f.2.2.1) = -2
    rw [h4]; rfl
theorem i13 {a : Int32} (h0 : ¬ a < 0) (h13 : ¬ 13 < a) : a = 0 ∨ a = 1 ∨ a = 2 ∨ a = 3 ∨ a = 4 ∨ a = 5 ∨ a = 6 ∨ a = 7 ∨ a = 8 ∨ a = 9 ∨ a = 10 ∨ a = 11 ∨ a = 12 ∨ a = 13 := by
  obtain ⟨n, hn, en, -⟩ := i61 (m := 13) (by decide) h0 h13
  have : n = 0 ∨ n = 1 ∨ n = 2 ∨ n = 3 ∨ n = 4 ∨ n = 5 ∨ n = 6 ∨ n = 7 ∨ n = 8 ∨ n = 9 ∨ n = 10 ∨ n = 11 ∨ n = 12 ∨ n = 13 := by omega
  rw [en]
  rcases this with z | z | z | z | z | z | z | z | z | z | z | z | z | z <;> subst z <;> decide
theorem lnO_out (h : a < 0 ∨ 13 < a) : lnO s t a = -1 := by
  have hn : ∀ m : Int32, ¬ (m < 0 ∨ 13 < m) → a ≠ m := fun m hm e => hm (by rw [← e]; exact h)
  unfold lnO
  rw [if_neg (hn 0 (by decide)), if_neg (hn 1 (by decide)), if_neg (hn 2 (by decide)), if_neg (hn 3 (by decide)), if_neg (hn 4 (by decide)), if_neg (hn 5 (by decide)), if_neg (hn 6 (by decide)), if_neg (hn 7 (by decide)), if_neg (hn 8 (by decide)), if_neg (hn 9 (by decide)), if_neg (hn 10 (by decide)), if_neg (hn 11 (by decide)), if_neg (hn 12 (by decide)), if_neg (hn 13 (by decide))]
/-- run, in the twin -/
theorem ct_run (hk : k < 3) (hOn : tOn on M) (hon : on k = true) (hW : WO W) (hA : MA W s) (hk2 : LkN s) (hkb : zK s < 1000000) (hN : NTs s) (h : TAx G US A S W k br nq nl nf nk B F x s M) (hQ : ∀ M', TAx G US A S W k br nq nl nf nk B F x s M' → Fr (69556213141345269407515067115786764991705262549735948303537359111522614176378895669990532984393877424257869264331680209358104836822935374614554679608043721543799333994078233166448732839509381338884749875141583345849788064702954612877462466104677421689448088294080777773965362174599308044327164417092088846031042047278365580585966720455145967136585436087833973984505353126613550736388181582785893315094229488730062957948409704252857268529221075377285067062755595332929103886865297150820576930048624213679773234781064639103418048462727563158233601126703792262163018387042296687430434915196125330685777119717767970019341806901981510528366365657011400439883787084893751229924829447152769796462326141284670937650906274428797367613626454026848298648969369286983979169519208976077834399557390296948941219899625597632161323087361696526000865772268255307923110197940977474400891396850517544211016799549379926055142573277403100946091498432294529676854420081353757434477181439477999992832) M M' → Q (runO s b a) M') : w_Model_run 0 (Int32.ofNat k) b a Q M := by
  unfold w_Model_run
  refine ct_isWorld hOn (fun j hj e _ _ => ?_) (fun q => by rw [wOf_k hk, hon] at q; cases q)
  refine itn (by decide) ?_
  unfold runO at hQ
  unfold w_Model_isThread
  by_cases c0 : b < 0
  · have hQ := hQ M h (Fr.rf _ _)
    rw [if_pos (Or.inl c0)] at hQ
    exact itp c0 (itp rfl hQ)
  refine itn c0 ?_
  by_cases c2 : 2 < b
  · have hQ := hQ M h (Fr.rf _ _)
    rw [if_pos (Or.inr c2)] at hQ
    refine itp ?_ (itp rfl hQ)
    rw [Int32.lt_iff_toInt_lt, show (2 : Int32).toInt = 2 from rfl] at c2
    rw [Int32.le_iff_toInt_le, show (3 : Int32).toInt = 3 from rfl]
    omega
  rw [if_neg (fun z => z.elim c0 c2)] at hQ
  obtain ⟨t, hn, en, en2⟩ := i61 (m := 2) (by decide) c0 c2
  rw [en2] at hQ
  rw [en]
  have ht : t < 3 := by omega
  refine itn (fun z => by have := (oN_le (a := 3) (b := t) (by omega) (by omega)).mp z; omega) (itn (by decide) ?_)
  have hQM := hQ M h (Fr.rf _ _)
  by_cases a0 : a < 0
  · rw [lnO_out (Or.inl a0)] at hQM
    exact itp a0 hQM
  refine itn a0 ?_
  by_cases a13 : 13 < a
  · rw [lnO_out (Or.inr a13)] at hQM
    exact itn (Int32.not_le.mpr a13) hQM
  obtain ⟨a1, a2⟩ := hOn.at hk
  have hT : TA G US A S W k br nq nl nf nk B F x s (sR M 11 0 45 (some (12, k))) := h
  have l704 : mL M 704 k = 3 := hT.2.2.2.2.1.1
  have r704 : ∀ t, t < 3 → mR M 704 k t = some (13, 3 * k + t) := fun t ht => by
    have := hT.2.2.2.2.1.2 t ht
    rw [mR_sR, if_neg (fun z => absurd z.1 (by decide))] at this
    exact this
  refine itp (Int32.not_lt.mp a13) ⟨a1, k, a2, by rw [l704]; exact (vp_oN (by omega)).mpr ht, 3 * k + t, ?_, ?_⟩
  · rw [oN_tnc (k := t) (by omega)]; exact r704 t ht
  have hX := hA.2.1 t ht
  obtain ⟨⟨hln, e0, hw, hp1⟩, hst⟩ := hT.2.2.2.2.2.2 t ht
  have e0 : mI M 13 (3 * k + t) 0 = (if (zN s t).1 = true then Int32.ofNat (lSt (zN s t)) else -2) := e0
  have l173 : mL M 173 (3 * k + t) = 40 := hln.2.2.2.1
  have l174 : mL M 174 (3 * k + t) = 40 := hln.2.2.2.2.1
  have w50 : mI M 12 k 50 = Int32.ofNat (zH s).1 := hT.2.2.1.1.2.1.1
  have w52 : mI M 12 k 52 = Int32.ofNat (zH s).2.1 := hT.2.2.1.1.2.1.2
  have w60 : mI M 12 k 60 = Int32.ofNat (zB s).length := hT.2.1.1.2.2.1
  have w63 : mI M 12 k 63 = Int32.ofNat (zT s).1 := hT.2.2.2.1.2.2.1
  by_cases c10 : a = 10
  · rw [c10] at hQM; exact itp c10 (by rw [w50]; exact hQM)
  refine itn c10 ?_
  by_cases c11 : a = 11
  · rw [c11] at hQM; exact itp c11 (by rw [w52]; exact hQM)
  refine itn c11 ?_
  by_cases c12 : a = 12
  · rw [c12] at hQM; exact itp c12 (by rw [w60]; exact hQM)
  refine itn c12 ?_
  by_cases c13 : a = 13
  · rw [c13] at hQM; exact itp c13 (by rw [w63]; exact hQM)
  refine itn c13 ?_
  have ha := i13 a0 a13
  have ha : a = 0 ∨ a = 1 ∨ a = 2 ∨ a = 3 ∨ a = 4 ∨ a = 5 ∨ a = 6 ∨ a = 7 ∨ a = 8 ∨ a = 9 := by
    rcases ha with z | z | z | z | z | z | z | z | z | z | z | z | z | z <;> first | contradiction | simp [z]
  have hQX := hQ (sR M 11 0 45 (some (12, k))) (TA.xx hT) (Fr.wR rfl (Fr.rf _ _))
  cases hb : (zN s t).1 with
  | false =>
    rw [if_neg (by rw [hb]; decide)] at e0
    obtain ⟨z0, z1, z2, z3, z4, z5, z6, z7, z8, z9⟩ := lnO_1 hN ht hb
    refine itp e0 ?_
    unfold w_Model_run_j115 w_Model_run_j146 w_Model_run_j148
    refine itp rfl ?_
    have e0' : mI (sR M 11 0 45 (some (12, k))) 13 (3 * k + t) 0 = -2 := e0
    rcases ha with z | z | z | z | z | z | z | z | z | z <;> subst z
    · rw [z0] at hQX; rw [e0']; exact itp rfl (itn (by decide) hQX)
    · rw [z1] at hQM; exact itn (by decide) (itp rfl (itp rfl hQM))
    · rw [z2] at hQM; exact itn (by decide) (itn (by decide) (itp rfl (itp rfl hQM)))
    · rw [z3] at hQM; exact itn (by decide) (itn (by decide) (itn (by decide) (itp rfl (itp rfl hQM))))
    · rw [z4] at hQM; exact itn (by decide) (itn (by decide) (itn (by decide) (itn (by decide) (itp rfl (itp rfl hQM)))))
    · rw [z5] at hQM; exact itn (by decide) (itn (by decide) (itn (by decide) (itn (by decide) (itn (by decide) (itp rfl (itp rfl hQM))))))
    · rw [z6] at hQM; exact itn (by decide) (itn (by decide) (itn (by decide) (itn (by decide) (itn (by decide) (itn (by decide) (itp rfl (itp rfl hQM)))))))
    · rw [z7] at hQM; exact itn (by decide) (itn (by decide) (itn (by decide) (itn (by decide) (itn (by decide) (itn (by decide) (itn (by decide) (itp rfl (itn (by decide) hQM))))))))
    · rw [z8] at hQM; exact itn (by decide) (itn (by decide) (itn (by decide) (itn (by decide) (itn (by decide) (itn (by decide) (itn (by decide) (itn (by decide) (itp rfl (itn (by decide) hQM)))))))))
    · rw [z9] at hQM; exact itn (by decide) (itn (by decide) (itn (by decide) (itn (by decide) (itn (by decide) (itn (by decide) (itn (by decide) (itn (by decide) (itn (by decide) (itn (by decide) hQM)))))))))
  | true =>
    rw [if_pos hb] at e0
    obtain ⟨⟨-, ⟨-, e3⟩, ⟨e10, e11, e12, e13⟩, -, -⟩, ⟨u1, u2, hU⟩, -⟩ := hst hb
    have e3 : mI M 13 (3 * k + t) 3 = Int32.ofNat (lSp (zN s t)) := e3
    have e10 : mI M 13 (3 * k + t) 10 = (lRs (zN s t)).1 := e10
    have e11 : mI M 13 (3 * k + t) 11 = (lRs (zN s t)).2.1 := e11
    have e12 : mI M 13 (3 * k + t) 12 = (lRs (zN s t)).2.2.1 := e12
    have e13 : mI M 13 (3 * k + t) 13 = (lRs (zN s t)).2.2.2 := e13
    have u2 : mI M 13 (3 * k + t) 22 = Int32.ofNat (frs (gU s t)) := u2
    have hst2 := hX.2.1.1
    have hf40 := (hA.2.2.1 t ht).1.2.2
    have ne2 : ¬ Int32.ofNat (lSt (zN s t)) = -2 := fun z => by
      have := oN_nonneg (show lSt (zN s t) < 2147483648 by omega)
      rw [z] at this
      exact absurd (by decide) this
    refine itn (by rw [e0]; exact ne2) ?_
    unfold w_Model_run_j115
    refine itn (by decide) ?_
    -- what is asked, when the uppermost frame is known
    have key : ∀ r, ((topF (gU s t) = none ∧ r = -2) ∨ ∃ f, topF (gU s t) = some f ∧ r = Int32.ofNat (12 * f.1 + f.2.1)) → w_Model_run_j148 0 Q (Int32.ofNat t) a k (3 * k + t) 1 r M := fun r hr => ?key
    · rw [u2]
      cases ef : topF (gU s t) with
      | none =>
        have z := topF_frs.mp ef
        unfold w_Model_run_j146
        exact itp (by rw [z]; decide) (key (-2) (Or.inl ⟨ef, rfl⟩))
      | some f =>
        have z : frs (gU s t) ≠ 0 := fun z => by rw [topF_frs.mpr z] at ef; cases ef
        obtain ⟨y1, y2⟩ := topF_un hU ef
        have y1 : mI M 173 (3 * k + t) (frs (gU s t) - 1) = Int32.ofNat (12 * f.1 + f.2.1) := y1
        refine itn (fun y => by have := (oN_le (b := 0) (by omega) (by omega)).mp y; omega) ?_
        rw [show Int32.ofNat (frs (gU s t)) - (1 : Int32) = Int32.ofNat (frs (gU s t) - 1) from sub_n (n := 1) (by omega), oN_tnc (k := frs (gU s t) - 1) (by omega), y1]
        exact ⟨by rw [l173]; exact (vp_oN (by omega)).mpr (by omega), key _ (Or.inr ⟨f, ef, rfl⟩)⟩
    unfold w_Model_run_j148
    rcases ha with z | z | z | z | z | z | z | z | z | z <;> subst z
    · have e0' : mI (sR M 11 0 45 (some (12, k))) 13 (3 * k + t) 0 = Int32.ofNat (lSt (zN s t)) := e0
      have hv : lnO s t 0 = (if lSt (zN s t) = 1 then (if waitS s t = true then 4 else 1) else Int32.ofNat (lSt (zN s t))) := by
        show (if (zN s t).1 = false then (-2 : Int32) else _) = _
        rw [if_neg (by rw [hb]; decide)]
      rw [hv] at hQX
      refine itp rfl ?_
      by_cases c1 : lSt (zN s t) = 1
      · rw [if_pos c1] at hQX
        refine itp (by rw [e0', c1]; rfl) (ct_canGo hT hX hk2 hkb hW.2.2.2 ht ?_)
        by_cases ew : waitS s t = true
        · rw [if_pos ew] at hQX
          rw [decide_eq_false (fun z : canG s t => by have := z.2; rw [ew] at this; cases this)]
          exact itp rfl hQX
        · rw [if_neg ew] at hQX
          rw [decide_eq_true (show canG s t from ⟨c1, by cases hh : waitS s t with | false => rfl | true => exact absurd hh ew⟩)]
          refine itn (by decide) ?_
          rw [e0', c1]; exact hQX
      · rw [if_neg c1] at hQX
        refine itn (by rw [e0']; exact ne_oN (b := 1) c1 (by omega) (by omega)) ?_
        rw [e0']; exact hQX
    · exact itn (by decide) (itp rfl (itn (by decide) (by rw [e3]; exact hQM)))
    · exact itn (by decide) (itn (by decide) (itp rfl (itn (by decide) (by rw [e10]; exact hQM))))
    · exact itn (by decide) (itn (by decide) (itn (by decide) (itp rfl (itn (by decide) (by rw [e11]; exact hQM)))))
    · exact itn (by decide) (itn (by decide) (itn (by decide) (itn (by decide) (itp rfl (itn (by decide) (by rw [e12]; exact hQM))))))
    · exact itn (by decide) (itn (by decide) (itn (by decide) (itn (by decide) (itn (by decide) (itp rfl (itn (by decide) (by rw [e13]; exact hQM)))))))
    · exact itn (by decide) (itn (by decide) (itn (by decide) (itn (by decide) (itn (by decide) (itn (by decide) (itp rfl (itn (by decide) (by rw [u2]; exact hQM))))))))
    · refine itn (by decide) (itn (by decide) (itn (by decide) (itn (by decide) (itn (by decide) (itn (by decide) (itn (by decide) (itp rfl ?_)))))))
      have hv : lnO s t 7 = (match topF (gU s t) with | none => -2 | some f => Int32.ofNat f.1) := rfl
      rw [hv] at hQM
      rcases hr with ⟨ef, er⟩ | ⟨f, ef, er⟩
      · rw [ef] at hQM
        exact itn (by rw [er]; decide) hQM
      · rw [ef] at hQM
        have hF := topF_ok (hA.2.2.1 t ht).1.1 _ ef
        have hc1 : f.1 < W.length := hF.1.2.1
        have hj1 : f.2.1 < (gc W f.1).2.2.2.2.2.length := hF.2.1
        have h12 := (hT.1.1.mcn hc1).2
        have h51 := hW.2.2.2
        refine itp (by rw [er]; exact oN_zero_le (by omega)) ?_
        refine ⟨by decide, ?_⟩
        rw [er, show (12 : Int32) = Int32.ofNat 12 from rfl, oN_div (by omega) (by omega), show (12 * f.1 + f.2.1) / 12 = f.1 by omega]; exact hQM
    · refine itn (by decide) (itn (by decide) (itn (by decide) (itn (by decide) (itn (by decide) (itn (by decide) (itn (by decide) (itn (by decide) (itp rfl ?_))))))))
      have hv : lnO s t 8 = (match topF (gU s t) with | none => -2 | some f => Int32.ofNat f.2.1) := rfl
      rw [hv] at hQM
      rcases hr with ⟨ef, er⟩ | ⟨f, ef, er⟩
      · rw [ef] at hQM
        exact itn (by rw [er]; decide) hQM
      · rw [ef] at hQM
        have hF := topF_ok (hA.2.2.1 t ht).1.1 _ ef
        have hc1 : f.1 < W.length := hF.1.2.1
        have hj1 : f.2.1 < (gc W f.1).2.2.2.2.2.length := hF.2.1
        have h12 := (hT.1.1.mcn hc1).2
        have h51 := hW.2.2.2
        refine itp (by rw [er]; exact oN_zero_le (by omega)) ?_
        refine ⟨by decide, ?_⟩
        rw [er, show (12 : Int32) = Int32.ofNat 12 from rfl, oN_mod (by omega) (by omega), show (12 * f.1 + f.2.1) % 12 = f.2.1 by omega]; exact hQM
    · refine itn (by decide) (itn (by decide) (itn (by decide) (itn (by decide) (itn (by decide) (itn (by decide) (itn (by decide) (itn (by decide) (itn (by decide) (?_)))))))))
      have hv : lnO s t 9 = (match topF (gU s t) with | none => -2 | some f => Int32.ofNat f.2.2.1) := rfl
      rw [hv] at hQM
      rcases hr with ⟨ef, er⟩ | ⟨f, ef, er⟩
      · rw [ef] at hQM
        exact itn (by rw [er]; decide) hQM
      · rw [ef] at hQM
        have hF := topF_ok (hA.2.2.1 t ht).1.1 _ ef
        have hc1 : f.1 < W.length := hF.1.2.1
        have hj1 : f.2.1 < (gc W f.1).2.2.2.2.2.length := hF.2.1
        have h12 := (hT.1.1.mcn hc1).2
        have h51 := hW.2.2.2
        refine itp (by rw [er]; exact oN_zero_le (by omega)) ?_
        have z : frs (gU s t) ≠ 0 := fun z => by rw [topF_frs.mpr z] at ef; cases ef
        obtain ⟨y1, y2⟩ := topF_un hU ef
        have y2 : mI M 174 (3 * k + t) (frs (gU s t) - 1) = Int32.ofNat f.2.2.1 := y2
        rw [u2, show Int32.ofNat (frs (gU s t)) - (1 : Int32) = Int32.ofNat (frs (gU s t) - 1) from sub_n (n := 1) (by omega), oN_tnc (k := frs (gU s t) - 1) (by omega), y2]
        exact ⟨by rw [l174]; exact (vp_oN (by omega)).mpr (by omega), hQM⟩
end
