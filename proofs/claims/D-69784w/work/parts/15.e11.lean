/-! B: stamps of a world; finding: the spec -/
/-- stamps of a world alone change -/
def Sp (w : Nat) (M M' : Mem) : Prop := Fr (794222741208539315422368809500752739379874267210927735573635369226845924692817286591214421889587121283613932607616565727087482285682464876832886433049353005972624442178789279950852859913576090176619912520926844557970445565361023127433333006462390365485014528459644232734005065110513233312339207760869713154586566657384489183330753940354610859905585382244179690899320151883719299712003120680556755178230016820656790004984918606420337077918965249746625272542821266994637840827453117474205460932041064205590819862462219008451690428867043294532784746489186811958319566080407050763763346930195303994005282005527756122905116672) M M' ∧ Fi w M M'
theorem Sp.rf (w : Nat) (M : Mem) : Sp w M M := ⟨Fr.rf _ _, Fi.rf _ _⟩
theorem Sp.trans {w : Nat} {M M1 M2 : Mem} (h : Sp w M M1) (h1 : Sp w M1 M2) : Sp w M M2 := ⟨h.1.trans h1.1, h.2.trans h1.2⟩
theorem sp5 : ∀ k, k < 65 → k ≠ 61 → k ≠ 62 → ((794222741208539315422368809500752739379874267210927735573635369226845924692817286591214421889587121283613932607616565727087482285682464876832886433049353005972624442178789279950852859913576090176619912520926844557970445565361023127433333006462390365485014528459644232734005065110513233312339207760869713154586566657384489183330753940354610859905585382244179690899320151883719299712003120680556755178230016820656790004984918606420337077918965249746625272542821266994637840827453117474205460932041064205590819862462219008451690428867043294532784746489186811958319566080407050763763346930195303994005282005527756122905116672)).testBit (cd 5 k) = false := by decide
set_option maxRecDepth 4000 in
theorem spW0 : ∀ j, j < 41 → ((794222741208539315422368809500752739379874267210927735573635369226845924692817286591214421889587121283613932607616565727087482285682464876832886433049353005972624442178789279950852859913576090176619912520926844557970445565361023127433333006462390365485014528459644232734005065110513233312339207760869713154586566657384489183330753940354610859905585382244179690899320151883719299712003120680556755178230016820656790004984918606420337077918965249746625272542821266994637840827453117474205460932041064205590819862462219008451690428867043294532784746489186811958319566080407050763763346930195303994005282005527756122905116672)).testBit (36 + j) = false ∧ ((794222741208539315422368809500752739379874267210927735573635369226845924692817286591214421889587121283613932607616565727087482285682464876832886433049353005972624442178789279950852859913576090176619912520926844557970445565361023127433333006462390365485014528459644232734005065110513233312339207760869713154586566657384489183330753940354610859905585382244179690899320151883719299712003120680556755178230016820656790004984918606420337077918965249746625272542821266994637840827453117474205460932041064205590819862462219008451690428867043294532784746489186811958319566080407050763763346930195303994005282005527756122905116672)).testBit (5036 + j) = false := by decide
theorem spW {f : Nat} (h : wFm f = true) : ((794222741208539315422368809500752739379874267210927735573635369226845924692817286591214421889587121283613932607616565727087482285682464876832886433049353005972624442178789279950852859913576090176619912520926844557970445565361023127433333006462390365485014528459644232734005065110513233312339207760869713154586566657384489183330753940354610859905585382244179690899320151883719299712003120680556755178230016820656790004984918606420337077918965249746625272542821266994637840827453117474205460932041064205590819862462219008451690428867043294532784746489186811958319566080407050763763346930195303994005282005527756122905116672)).testBit f = false ∧ ((794222741208539315422368809500752739379874267210927735573635369226845924692817286591214421889587121283613932607616565727087482285682464876832886433049353005972624442178789279950852859913576090176619912520926844557970445565361023127433333006462390365485014528459644232734005065110513233312339207760869713154586566657384489183330753940354610859905585382244179690899320151883719299712003120680556755178230016820656790004984918606420337077918965249746625272542821266994637840827453117474205460932041064205590819862462219008451690428867043294532784746489186811958319566080407050763763346930195303994005282005527756122905116672)).testBit (5000 + f) = false := by
  unfold wFm at h
  rw [Bool.or_eq_true, Bool.and_eq_true] at h
  rcases h with q | q
  · have q1 := Nat.ble_eq.mp q.1
    have q2 := Nat.ble_eq.mp q.2
    have := spW0 (f - 36) (by omega)
    rw [show 36 + (f - 36) = f by omega, show 5036 + (f - 36) = 5000 + f by omega] at this
    exact this
  · have := Nat.eq_of_beq_eq_true q
    rw [this]; exact ⟨rfl, rfl⟩
theorem wFm_r {f : Nat} (h : wFm f = true) : 20 ≤ f ∧ f < 512 := by
  unfold wFm at h
  rw [Bool.or_eq_true, Bool.and_eq_true] at h
  rcases h with q | q
  · have := Nat.ble_eq.mp q.1
    have := Nat.ble_eq.mp q.2
    omega
  · have := Nat.eq_of_beq_eq_true q; omega
theorem Sp.row {w : Nat} {M M' : Mem} (h : Sp w M M') {f : Nat} (hf : wFm f = true) : (∀ i k, mI M' f i k = mI M f i k) ∧ ∀ i, mL M' f i = mL M f i := by
  obtain ⟨a, b⟩ := wFm_r hf
  obtain ⟨c, d⟩ := spW hf
  exact ⟨fun i k => h.1.Ia (Nat.ble_eq.mpr a) c i k, fun i => h.1.L d i⟩
theorem Sp.lo {w : Nat} {M M' : Mem} (b : Nat → Nat) (h : Sp w M M') : Lo w b M M' := by
  refine ⟨fun f hf => ⟨fun i k _ => (h.row hf).1 i k, (h.row hf).2⟩, fun i k hi hk => ?_, fun i k _ _ _ => h.1.Ia (f := 211) rfl rfl i k, fun i => h.1.L (f := 211) rfl i⟩
  exact (h.2 5 i k hi).1
section
variable {A : List Nm} {W : List Cls} {w c p : Nat} {br : Int32} {nq nk np nh nr : Nat} {M M' : Mem} {Q : Int32 → Mem → Prop} {s : LkS}
theorem CWx.sp (h : CWx A W w br nq nk np nh nr M) (hs : Sp w M M') (hK : KB w nq nk np nh nr) : CWx A W w br nq nk np nh nr M' := h.lw (hs.lo bL) hK (fun k hk => hs.1.I (sp5 k (by omega) (by omega) (by omega)) w)
theorem LKw.sp (h : LKw A W w br nq nk np nh nr s M) (hs : Sp w M M') (hK : KB w nq nk np nh nr) : LKw A W w br nq nk np nh nr s M' := by
  obtain ⟨hcw, h45, ⟨a, b, d⟩, hl, e1, e2, e3, e4, e5, e6⟩ := h
  refine ⟨hcw.sp hs hK, fun c hc => ((hs.row (f := 45) rfl).1 w c).trans (h45 c hc), ⟨(hs.1.I (f := 5) (k := 56) rfl w).trans a, (hs.1.I (f := 5) (k := 57) rfl w).trans b, (hs.1.I (f := 5) (k := 58) rfl w).trans d⟩, fun c hc hl1 => ?_, (hs.1.L (f := 515) rfl 0).trans e1, (hs.1.L (f := 97) rfl 0).trans e2, (hs.1.L (f := 31) rfl 0).trans e3, (hs.1.L (f := 32) rfl 0).trans e4, (hs.1.I (f := 4) (k := 9) rfl 0).trans e5, (hs.1.I (f := 4) (k := 10) rfl 0).trans e6⟩
  obtain ⟨x, y, z⟩ := hl c hc hl1
  exact ⟨((hs.row (f := 47) rfl).1 w c).trans x, ((hs.row (f := 48) rfl).1 w c).trans y, fun f hf' hs' => ((hs.row (f := 53) rfl).1 w _).trans (z f hf' hs')⟩
theorem cSt.sp {v : Nat} (h : cSt v M) (hs : Sp w M M') (hv : v ≠ w) : cSt v M' := by
  refine ⟨⟨(hs.1.L (f := 77) rfl v).trans h.1.1, (hs.1.L (f := 78) rfl v).trans h.1.2⟩, fun i hi => ?_⟩
  rw [(hs.2 77 v i hv).1, (hs.2 5 v 61 hv).1]; exact h.2 i hi
/-- a new stamp -/
theorem k_stamp {Q : Mem → Prop} (h : cSt w M) (hQ : ∀ M', Sp w M M' → (mL M' 77 w = 51 ∧ mL M' 78 w = 52) → (∀ i, i < 51 → mI M' 77 w i ≠ mI M' 5 w 61 ∧ (mI M' 77 w i).toUInt32.toNat ≤ (mI M' 5 w 61).toUInt32.toNat) → mI M' 5 w 62 = mI M 5 w 62 → Q M') : w_World_nextStamp w Q M :=
  mf_w_World_nextStamp (Q := fun M' => Fi w M M' ∧ (mL M' 77 w = 51 ∧ mL M' 78 w = 52) ∧ (∀ i, i < 51 → mI M' 77 w i ≠ mI M' 5 w 61 ∧ (mI M' 77 w i).toUInt32.toNat ≤ (mI M' 5 w 61).toUInt32.toNat)) (fun M' hf hp => hQ M' ⟨hf.sub rfl, hp.1⟩ hp.2.1 hp.2.2 (hf.I (f := 5) (k := 62) rfl w))
    (mi_w_World_nextStamp (Q := fun M' => (mL M' 77 w = 51 ∧ mL M' 78 w = 52) ∧ (∀ i, i < 51 → mI M' 77 w i ≠ mI M' 5 w 61 ∧ (mI M' 77 w i).toUInt32.toNat ≤ (mI M' 5 w 61).toUInt32.toNat)) (fun M' hi hp => ⟨hi, hp⟩) (c_nextStamp h (fun M' a b => ⟨a, b⟩)))
/-- whether a class is below another one -/
theorem k_isBelow {k ab : Nat} (h : cCl A W w M) (hS : cSt w M) (hk : k < W.length) (ha : ab < 51) (hQ : ∀ M' (b : Bool), (b = true ↔ Reach (edge false W) k ab) → cSt w M' → Sp w M M' → Q (b2 b) M') : w_World_isBelow w (Int32.ofNat k) (Int32.ofNat ab) Q M :=
  mf_w_World_isBelow (Q := fun r M' => Fi w M M' ∧ ∃ b : Bool, r = b2 b ∧ (b = true ↔ Reach (edge false W) k ab) ∧ cSt w M') (fun r M' hf ⟨hi, b, er, hb, hs⟩ => er ▸ hQ M' b hb hs ⟨hf.sub rfl, hi⟩)
    (mi_w_World_isBelow (Q := fun r M' => ∃ b : Bool, r = b2 b ∧ (b = true ↔ Reach (edge false W) k ab) ∧ cSt w M') (fun r M' hi hp => ⟨hi, hp⟩) (c_isBelow h hS hk ha (fun M' b hb hs => ⟨b, rfl, hb, hs⟩)))
end
/-! fields -/
def ownF (nm : Nm) (κ : Kd) : Nat → List Fld → Option Nat
  | _, [] => none
  | k, f :: fs => if f.1 = nm ∧ f.2.1 = κ then some k else ownF nm κ (k + 1) fs
abbrev FV : Type := Option (Nat × Nat) × List Nat
def fbS (K : Nat → List Nat → FV) (W : List Cls) : List Nm → List Nat → FV
  | [], v => (none, v)
  | f :: fs, v => match fnd W f with
    | none => fbS K W fs v
    | some d => match K d v with
      | (some r, v') => (some r, v')
      | (none, v') => fbS K W fs v'
/-- in the class, in its faces and theirs; v: those that were looked in -/
def fbN (W : List Cls) (nm : Nm) (κ : Kd) : Nat → Nat → List Nat → FV
  | 0, _, v => (none, v)
  | n + 1, c, v => if c ∈ v then (none, v) else match ownF nm κ 0 (gc W c).2.2.2.2.1 with
    | some f => (some (c, f), v ++ [c])
    | none => fbS (fbN W nm κ n) W (gc W c).2.2.1 (v ++ [c])
def fdU (W : List Cls) (nm : Nm) (κ : Kd) : Nat → Option Nat → List Nat → Option (Nat × Nat)
  | 0, _, _ => none
  | _ + 1, none, _ => none
  | n + 1, some u, v => match fbN W nm κ 60 u v with
    | (some r, _) => some r
    | (none, v') => fdU W nm κ n (upW W u) v'
/-- the field of a name and a type, from a class on -/
def fldW (W : List Cls) (nm : Nm) (κ : Kd) (c : Nat) : Option (Nat × Nat) := fdU W nm κ 52 (some c) []
/-! methods -/
/-- the class's own method that is like another one, but for flags that pass it over -/
def ownQ (x : Mth) (msk : Int32) (l : List Mth) : Option Nat := match ownI x 0 l with
  | none => none
  | some j => if (l.getD j ([], [], (0, []), 0, 0, 0, [], [])).2.2.2.1 &&& msk = 0 then some j else none
def mthUp (W : List Cls) (x : Mth) (msk : Int32) : Nat → Option Nat → Option (Nat × Nat)
  | 0, _ => none
  | _ + 1, none => none
  | n + 1, some u => match ownQ x msk (gc W u).2.2.2.2.2 with
    | some j => some (u, j)
    | none => mthUp W x msk n (upW W u)
/-- faces above a class, in turn -/
def lsS (K : Nat → List Nat → List Nat) (W : List Cls) : List Nm → List Nat → List Nat
  | [], v => v
  | f :: fs, v => match fnd W f with
    | none => lsS K W fs v
    | some d => if d ∈ v then lsS K W fs v else lsS K W fs (K d (v ++ [d]))
def lsO (W : List Cls) : Nat → Nat → List Nat → List Nat
  | 0, _, v => v
  | n + 1, c, v => lsS (lsO W n) W (gc W c).2.2.1 v
def lsF (W : List Cls) : Nat → Option Nat → List Nat → List Nat
  | 0, _, v => v
  | _ + 1, none, v => v
  | n + 1, some u, v => lsF W n (upW W u) (lsO W 60 u v)
/-- the first one that is not abstract, else the first -/
def pkM (W : List Cls) (x : Mth) (msk : Int32) (o : Option (Nat × Nat)) (d : Nat) : Option (Nat × Nat) := match ownQ x msk (gc W d).2.2.2.2.2 with
  | none => o
  | some j => match o with
    | none => some (d, j)
    | some q => if ¬ (gmt (gc W q.1) q.2).2.2.2.1 &&& 8 = 0 ∧ (gmt (gc W d) j).2.2.2.1 &&& 8 = 0 then some (d, j) else some q
def mthW (W : List Cls) (x : Mth) (msk : Int32) (c : Nat) : Option (Nat × Nat) := match mthUp W x msk 52 (some c) with
  | some r => some r
  | none => (lsF W 52 (some c) []).foldl (pkM W x msk) none
/-! what is found, or thrown: 100 times the rule and the fault -/
abbrev FR : Type := (Int32 ⊕ (Nat × Nat)) × LkS
noncomputable def lkd (br : Int32) (W : List Cls) (s : LkS) (nm : Nm) : (Int32 ⊕ Nat) × LkS := match fnd W nm with
  | none => (.inl 5011, s)
  | some c => if (lkN br W 60 s c).1 = 1 then (.inr c, (lkN br W 60 s c).2) else (.inl (lkN br W 60 s c).1, (lkN br W 60 s c).2)
def fFld2 (br : Int32) (W : List Cls) (fx pt : Bool) (mc : Nat) (mn : Nm) (r : Nat × Nat) : Int32 ⊕ (Nat × Nat) :=
  if ¬ (gfl (gc W r.1) r.2).2.2.1 &&& 4 = 0 ∧ r.1 ≠ mc ∧ brk br 5 = true then .inl 5314
  else if decide (¬ (gfl (gc W r.1) r.2).2.2.1 &&& 1 = 0) ≠ fx ∨ (fx = false ∧ isFc W r.1 = true) then .inl 5515
  else if pt = true ∧ ¬ (gfl (gc W r.1) r.2).2.2.1 &&& 2 = 0 ∧ ¬ (r.1 = mc ∧ mn = if fx then nStart else nMake) ∧ brk br 6 = true then .inl 5414
  else .inr r
noncomputable def fFld (br : Int32) (W : List Cls) (s : LkS) (k nm : Nm) (κ : Kd) (fx pt : Bool) (mc : Nat) (mn : Nm) : FR := match lkd br W s k with
  | (.inl e, s') => (.inl e, s')
  | (.inr c, s') => match fldW W nm κ c with
    | none => (.inl 5112, s')
    | some r => (fFld2 br W fx pt mc mn r, s')
def fMth2 (br : Int32) (W : List Cls) (o : Nat) (acc : Nat → Bool) (r : Nat × Nat) : Int32 ⊕ (Nat × Nat) :=
  if ¬ (gmt (gc W r.1) r.2).2.2.2.1 &&& 4 = 0 ∧ acc r.1 = false ∧ brk br 5 = true then .inl 5314
  else if decide (¬ (gmt (gc W r.1) r.2).2.2.2.1 &&& 1 = 0) ≠ decide (o = 52) then .inl 5515
  else if (o = 52 ∨ o = 51 ∨ ¬ (gmt (gc W r.1) r.2).2.2.2.1 &&& 4 = 0) ∧ ¬ (gmt (gc W r.1) r.2).2.2.2.1 &&& 8 = 0 then .inl 5818
  else .inr r
def fMth1 (W : List Cls) (x : Mth) (c : Nat) : Option (Nat × Nat) := if x.1 = nMake then (ownI x 0 (gc W c).2.2.2.2.2).map (fun j => (c, j)) else mthW W x 0 c
noncomputable def fMth (br : Int32) (W : List Cls) (s : LkS) (k : Nm) (x : Mth) (o : Nat) (acc : Nat → Bool) : FR := match lkd br W s k with
  | (.inl e, s') => (.inl e, s')
  | (.inr c, s') => if (o = 50 ∧ isFc W c = true) ∨ (o = 53 ∧ isFc W c = false) then (.inl 5615, s') else match fMth1 W x c with
    | none => (.inl 5213, s')
    | some r => (fMth2 br W o acc r, s')
