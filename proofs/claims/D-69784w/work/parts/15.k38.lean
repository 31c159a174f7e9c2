/-! the universes of names and signatures may grow -/
section
variable {G : List Sl} {U1 U2 : List (List Kd × Kd)} {US : UST} {BB B2 A : List Nm} {S S0 : List Sg} {on : Nat → Bool} {ws : Nat → Wld} {lf k B F : Nat} {M M' : Mem} {d : Wld} {T : List Trl} {tp P : List Int32} {pl : Int32} {L : Tl} {V : RV} {l : Trl}
theorem nmL.uu (h : nmL BB l) (hs : BB ⊆ B2) : nmL B2 l := fun x hx t ht e => hs (h x hx t ht e)
theorem ulL.uu (h : ulL U1 l) (hs : U1 ⊆ U2) : ulL U2 l := fun x hx t ks κ t2 h1 h2 => hs (h x hx t ks κ t2 h1 h2)
theorem GWC.uu (h : GWC BB A T tp pl L V P M) (hs : BB ⊆ B2) (hl : B2.length < 41200) : GWC B2 A T tp pl L V P M := by
  obtain ⟨⟨B, ⟨⟨⟨n1, n2, n3, -⟩, hR⟩, hr⟩, hx, hT⟩, hrest⟩ := h
  exact ⟨⟨B, ⟨⟨⟨n1, n2, List.Subset.trans n3 hs, hl⟩, hR⟩, hr⟩, hx, fun l hl => ⟨(hT l hl).1, (hT l hl).2.uu hs⟩⟩, hrest⟩
def U2k (U : List (List Kd × Kd)) : Prop := U.length < 100000 ∧ (U.map (fun x => x.1.length)).sum ≤ 900000
theorem TV.uu (h : TV (U1, S0) A S M) (hs : U1 ⊆ U2) (hu : U2k U2) : TV (U2, S0) A S M := by
  obtain ⟨h1, ⟨h2, h3, h4, h5⟩, h6⟩ := h
  refine ⟨h1, ⟨fun s hs' => ?_, hu.1, hu.2, h5⟩, h6⟩
  obtain ⟨x, hx, e⟩ := h2 s hs'
  exact ⟨x, hs hx, e⟩
theorem TAx.uu {W : List Cls} {w nq nl nf nk : Nat} {br x : Int32} {s : Ms} (h : TAx G (U1, S0) A S W w br nq nl nf nk B F x s M) (hs : U1 ⊆ U2) (hu : U2k U2) : TAx G (U2, S0) A S W w br nq nl nf nk B F x s M := by
  have h : TA G (U1, S0) A S W w br nq nl nf nk B F x s (sR M 11 0 45 (some (12, w))) := h
  obtain ⟨⟨⟨⟨a1, a2, a3⟩, b⟩, c⟩, d⟩ := h
  exact ⟨⟨⟨⟨a1, a2.uu hs hu, a3⟩, b⟩, c⟩, d⟩
theorem WWT.uu (h : WWT G U1 A S on ws lf M) (hs : U1 ⊆ U2) (hu : U2k U2) : WWT G U2 A S on ws lf M := by
  obtain ⟨h1, h2, h3, hw⟩ := h
  refine ⟨h1, h2, h3, fun k hk => ⟨fun z => ?_, (hw k hk).2⟩⟩
  obtain ⟨nq, nl, nf, nk, B, x, ⟨y1, y2⟩, hb⟩ := (hw k hk).1 z
  exact ⟨nq, nl, nf, nk, B, x, ⟨y1.uu hs hu, y2⟩, hb⟩
theorem GTC.uu (h : GTC G U1 BB A S T tp pl L V P M) (hs : U1 ⊆ U2) (hu : U2k U2) (hs2 : BB ⊆ B2) (hl : B2.length ≤ 50000) : GTC G U2 B2 A S T tp pl L V P M := by
  obtain ⟨⟨B, ⟨⟨hx, hR, hTG, hV⟩, ⟨hKs, hA0, hAB, hBl⟩, hr⟩, hx2, hT⟩, hrest⟩ := h
  exact ⟨⟨B, ⟨⟨hx, hR, hTG, hV.uu hs hu⟩, ⟨hKs, hA0, List.Subset.trans hAB hs2, hl⟩, hr⟩, hx2, fun l hl => ⟨(hT l hl).1, (hT l hl).2.1.uu hs2, (hT l hl).2.2.uu hs⟩⟩, hrest⟩
end
