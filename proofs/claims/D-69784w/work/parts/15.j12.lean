/-! what belongs to other worlds: twin -/
/-- rows of the twin's worlds other than w -/
def DT (G : List Sl) (w : Nat) (M : Mem) (f j : Nat) : Prop := ∃ s ∈ G, s.1 = 12 ∧ s.2.1 ≠ w ∧ s.2.2.2 = f ∧ rdI M s = j
/-- all slots are there -/
def GaA (G : List Sl) : Prop := Ga G ∧ (∀ w, w < 4 → ∀ k g, rs1 12 k = true → ty 12 k g = true → (12, w, k, g) ∈ G) ∧ ∀ k g, rs0 k = true → ty 11 k g = true → (11, 0, k, g) ∈ G
section
variable {G : List Sl} {US US' : UST} {A A' : List Nm} {S S' : List Sg} {W V : List Cls} {w v : Nat} {br br' x0 x1 : Int32} {nq nl nf nk nq' nl' nf' nk' B B' F F' : Nat} {M M' : Mem} {s s' : Ms} {T : Nat → Prop} {h : Hot} {f g j i k : Nat}
theorem DT_fam (hG : Ga G) (h1 : DT G w M f j) : f = 300 ∨ f = 401 ∨ f = 501 := by
  obtain ⟨s, hs, -, -, e, -⟩ := h1
  rw [← e]; exact (hG.2.2 s hs).2
theorem DT_no (hT : TG G M) {y : Sl} (hy : y ∈ G) (hw : y.1 = 12 → y.2.1 = w) (e : mR M y.1 y.2.1 y.2.2.1 = some (y.2.2.2, j)) : ¬ DT G w M y.2.2.2 j := fun ⟨s, hs, h1, h2, h3, h4⟩ => by
  have ej : rdI M y = j := by
    have := (hT y hy).1.1
    rw [e] at this
    cases this; rfl
  refine (hT y hy).2 s hs (fun z => ?_) h3 (h4.trans ej.symm)
  subst z
  exact h2 (hw h1)
theorem Dok_T (hG : Ga G) : Dok w (DT G w M) := by
  have n : ∀ {f j : Nat}, f = 211 ∨ f = 301 → ¬ DT G w M f j := fun e z => by
    have := DT_fam hG z
    omega
  exact ⟨ow3 rfl (n (Or.inl rfl)), fun _ => ow3 rfl (n (Or.inl rfl)), fun _ => ow3 rfl (n (Or.inl rfl)), fun _ => ow3 rfl (n (Or.inr rfl)), fun _ => ow3 rfl (n (Or.inr rfl))⟩
/-- the state in which an operation of the twin on world w begins -/
theorem StT (hG : GM M) (hA : GaA G) (hTG : TG G M) (hw : w < 4) (hh : ∀ f i k g j, hpt f k = true → h (f, i, k) = true → mR M f i k = some (g, j) → ow w (DT G w M) g j) (hT : ∀ f k g j, (f = 702 ∨ f = 703) → T (tn f k) → mR M f 0 k = some (g, j) → ow w (DT G w M) g j) : St w (DT G w M) T h M := by
  refine ⟨fun f j z => ?_, fun f i k g j r e => ?_⟩
  · obtain ⟨s, hs, -, -, h3, h4⟩ := z
    have := (hTG s hs).1.2
    rw [h3, h4] at this
    exact this
  · have t := hG.1 f i k g j e
    rcases r with ⟨r, ei⟩ | ⟨e1, e2, r⟩ | ⟨r1, r2⟩ | ⟨r1, e2, r2⟩
    · subst ei
      rcases rs1_f r with ef | ef | ef | ef <;> subst ef
      · rw [ty_700 t]; exact ow2 rfl (hG.2.2.1.1 i k g j e)
      · rw [ty_704 t]; exact ow2 rfl (hG.2.2.1.2.1 i k g j e)
      · rcases rs1_6 r with ek | ⟨k', hk', ek⟩ <;> subst ek
        · rw [ty_62 t]; exact ow2 rfl (hG.2.2.1.2.2 i g j hw e)
        · have eg := ty_ft hk' t
          subst eg
          exact ow3 rfl (fun z => by have := DT_fam hA.1 z; omega)
      · have hm := hA.2.1 i hw k g r t
        have hn := DT_no (w := i) hTG hm (fun _ => rfl) e
        have hn : ¬ DT G i M g j := hn
        rcases ty_12 r t with eg | eg <;> subst eg <;> exact ow3 rfl hn
    · subst e1
      subst e2
      have hm := hA.2.2 k g r t
      have hn := DT_no (w := w) hTG hm (fun z => absurd (show (11 : Nat) = 12 from z) (by decide)) e
      have hn : ¬ DT G w M g j := hn
      rcases ty_11 r t with eg | eg | eg <;> subst eg <;> exact ow3 rfl hn
    · exact hh f i k g j r1 r2 e
    · subst e2; exact hT f k g j r1 r2 e
theorem grp_t {g : Nat} (h : tnF g = true) : grp g = 2 := by
  unfold tnF at h
  simp only [Bool.or_eq_true, Bool.and_eq_true, Nat.beq_eq] at h
  rcases h with (h | h) | h
  · rw [h]; rfl
  · have h1 := Nat.le_of_ble_eq_true h.1
    have h2 := Nat.le_of_ble_eq_true h.2
    have : g = 170 ∨ g = 171 ∨ g = 172 ∨ g = 173 ∨ g = 174 ∨ g = 175 ∨ g = 176 := by omega
    rcases this with e | e | e | e | e | e | e <;> rw [e] <;> rfl
  · rw [h]; rfl
theorem grp_w {f : Nat} (h1 : 130 ≤ f) (h2 : f ≤ 169) : grp f = 1 := by
  have b : ∀ n, n < f → Nat.ble f n = false := fun n hn => by
    cases h : Nat.ble f n with
    | false => rfl
    | true => have := Nat.le_of_ble_eq_true h; omega
  have b2 : ∀ n, n ≤ f → Nat.blt f n = false := fun n hn => by
    cases h : Nat.blt f n with
    | false => rfl
    | true => have := Nat.le_of_ble_eq_true h; omega
  have e3 : Nat.ble f 169 = true := Nat.ble_eq.mpr h2
  unfold grp
  rw [b2 36 (by omega), b 88 (by omega), b 95 (by omega), b2 130 (by omega), e3]; rfl
theorem EqT.ow (hne : v ≠ w) (hu : Uch w (DT G w M) M M') : EqT v M M' := by
  have u1 : ∀ f, grp f = 1 → (∀ k, mI M' f v k = mI M f v k ∧ mR M' f v k = mR M f v k) ∧ mL M' f v = mL M f v := fun f hg => by
    have := hu f v (fun o => hne (o.1 hg))
    exact ⟨fun k => ⟨(this.1 k).1, (this.1 k).2.2⟩, this.2⟩
  have u2 : ∀ f t, grp f = 2 → t < 3 → (∀ k, mI M' f (3 * v + t) k = mI M f (3 * v + t) k) ∧ mL M' f (3 * v + t) = mL M f (3 * v + t) := fun f t hg ht => by
    have := hu f (3 * v + t) (fun o => hne (by have := o.2.1 hg; omega))
    exact ⟨fun k => (this.1 k).1, this.2⟩
  exact ⟨fun f h1 h2 => ⟨fun k => ((u1 f (grp_w h1 h2)).1 k).1, (u1 f (grp_w h1 h2)).2⟩, ⟨fun k => ((u1 523 rfl).1 k).1, (u1 523 rfl).2⟩, ⟨fun k => ((u1 524 rfl).1 k).1, (u1 524 rfl).2⟩, fun k _ => ((u1 12 rfl).1 k).1, fun t ht => ⟨fun g k hg _ => (u2 g t (grp_t hg) ht).1 k, fun g hg => (u2 g t (grp_t hg) ht).2⟩, (u1 704 rfl).2, fun t _ => ((u1 704 rfl).1 t).2⟩
theorem fr45 {u : Option (Nat × Nat)} : Fr (69556213141345269407515067115786764991705262549735948303537359111522614176378895669990532984393877424257869264331680209358104836822935374614554679608043721543799333994078233166448732839509381338884749875141583345849788064702954612877462466104677421689448088294080777773965362174599308044327164417092088846031042047278365580585966720455145967136585436087833973984505353126613550736388181582785893315094229488730062957948409704252857268529221075377285067062755595332929103886865297150820576930048624213679773234781064639103418048462727563158233601126703792262163018387042296687430434915196125330685777119717767970019341806901981510528366365657011400439883787084893751229924829447152769796462326141284670937650906274428797367613626454026848298648969369286983979169519208976077834399557390296948941219899625597632161323087361696526000865772268255307923110197940977474400891396850517544211016799549379926055142573277403100946091498432294529676854420081353757434477181439477999992832) (sR M 11 0 45 u) M := by
  have e : sR (sR M 11 0 45 u) 11 0 45 (mR M 11 0 45) = M := by rw [sR_two]; exact sR_same rfl
  have : Fr (69556213141345269407515067115786764991705262549735948303537359111522614176378895669990532984393877424257869264331680209358104836822935374614554679608043721543799333994078233166448732839509381338884749875141583345849788064702954612877462466104677421689448088294080777773965362174599308044327164417092088846031042047278365580585966720455145967136585436087833973984505353126613550736388181582785893315094229488730062957948409704252857268529221075377285067062755595332929103886865297150820576930048624213679773234781064639103418048462727563158233601126703792262163018387042296687430434915196125330685777119717767970019341806901981510528366365657011400439883787084893751229924829447152769796462326141284670937650906274428797367613626454026848298648969369286983979169519208976077834399557390296948941219899625597632161323087361696526000865772268255307923110197940977474400891396850517544211016799549379926055142573277403100946091498432294529676854420081353757434477181439477999992832) (sR M 11 0 45 u) (sR (sR M 11 0 45 u) 11 0 45 (mR M 11 0 45)) := Fr.wR rfl (Fr.rf _ _)
  rw [e] at this
  exact this
/-- another world of the twin, after an operation on world w -/
theorem TAx.oth (hx : TAx G US A S V v br nq nl nf nk B F x0 s M) (hx' : TAx G US' A' S' W w br' nq' nl' nf' nk' B' F' x1 s' M') (hne : v ≠ w) (hu : Uch w (DT G w M) M M') (hA : A <+: A') (hS : S <+: S') : TAx G US' A' S' V v br nq nl nf nk B' F x0 s M' := by
  have hT : TA G US A S V v br nq nl nf nk B F x0 s (sR M 11 0 45 (some (12, v))) := hx
  have hT' : TA G US' A' S' W w br' nq' nl' nf' nk' B' F' x1 s' (sR M' 11 0 45 (some (12, w))) := hx'
  have hB' := hT'.1.1
  have hin : ∀ y, y ∈ XW v ∨ y ∈ XF v → y ∈ G ∧ y.1 = 12 ∧ y.2.1 = v := fun y hy => by
    refine ⟨hy.elim (fun z => hT.1.1.2.1.2.2.2.1 y z) (fun z => (hT.2.2.1.2.2.1 y z).1), ?_⟩
    rcases hy with z | z
    · have : ∀ y ∈ XW v, y.1 = 12 ∧ y.2.1 = v := by simp
      exact this y z
    · have : ∀ y ∈ XF v, y.1 = 12 ∧ y.2.1 = v := by simp
      exact this y z
  have fr := fr45 (M := M') (u := some (12, w))
  have g45 : GF G [] (sR M' 11 0 45 (some (12, w))) M' := (GF.rf hB'.1.2.2.2).fr fr hB'.2.1.1
  obtain ⟨⟨l1, l2, l3⟩, l4⟩ := hT'.1.2.2.2
  obtain ⟨m1, m2, m3⟩ := hT'.2.2.2.2.2.1
  have hrs : rs G (sR M' 11 0 45 (some (12, w))) = rs G M' := rs_same (fun s hs => by unfold rl; rw [rdI45 hB'.2.1.1 hs]; rfl)
  rw [hrs] at m1
  refine TAx.eq hx (EqT.ow hne hu) (fun y hy => ?_) hx'.tg (hB'.1.2.1.gf fr g45 hB'.2.1 (fun _ _ z => by cases z)) (hB'.1.2.2.1.fr fr) hA hB'.2.2.1 hS ⟨⟨l1, l2, l3⟩, l4⟩ ⟨m1, m2, m3⟩
  obtain ⟨h1, h2, h3⟩ := hin y hy
  have er : mR M' y.1 y.2.1 y.2.2.1 = mR M y.1 y.2.1 y.2.2.1 := ((hu y.1 y.2.1 (fun o => hne (by
    have := o.1 (by rw [h2]; rfl)
    rw [h3] at this; exact this))).1 y.2.2.1).2.2
  have ei : rdI M' y = rdI M y := by unfold rdI; rw [er]
  have hd : DT G w M y.2.2.2 (rdI M y) := ⟨y, h1, h2, by rw [h3]; exact hne, rfl, rfl⟩
  have g3 : grp y.2.2.2 = 3 := by
    rcases (hB'.2.1.1.2.2 y h1).2 with e | e | e <;> rw [e] <;> rfl
  have u := hu y.2.2.2 (rdI M y) (fun o => o.2.2.1 g3 hd)
  refine ⟨fun k => ?_, ?_⟩
  · unfold rd; rw [ei]; exact (u.1 k).1
  · unfold rl; rw [ei]; exact u.2
end
