/-! B: an instruction is laid in the twin -/
/-- numbers of an instruction, told -/
def tOv (A : List Nm) (S : List Sg) (w nl o : Nat) (v u : Int32) (vs : List Int32) (cls mem : Nm) (ks : List Kd) (κ : Kd) (a b c : Int32) (M : Mem) : Prop :=
  a = (if isJ o then vs.headD 0 else if isN o ∨ isFo o ∨ isMo o then nc A cls else v) ∧
  (o ≠ 40 → b = (if isFo o ∨ isMo o then nc A mem else u) ∧ c = (if isFo o then kt A κ else if isMo o then Int32.ofNat (S.idxOf (sg A ks κ)) else 0)) ∧
  (o = 40 → ∃ lf, b = Int32.ofNat lf ∧ c = Int32.ofNat vs.length ∧ lf + vs.length ≤ nl ∧ ∀ j, j < vs.length → rd M (sLi w) (lf + j) = gi vs j) ∧
  (isN o ∨ isFo o ∨ isMo o → cls ∈ A) ∧ (isFo o ∨ isMo o → mem ∈ A) ∧ (isFo o → kok A κ ∧ kdOk κ) ∧ (isMo o → sg A ks κ ∈ S ∧ (∀ κ ∈ ks, kok A κ ∧ kdOk κ) ∧ kok A κ ∧ kdOk κ ∧ ks.length ≤ 6)
theorem tOv.op {A : List Nm} {S : List Sg} {w nl o q : Nat} {v u : Int32} {vs : List Int32} {cls mem : Nm} {ks : List Kd} {κ : Kd} {a b c : Int32} {M M' : Mem} (h : tOv A S w nl o v u vs cls mem ks κ a b c M) (ea : rd M' (sAs w) q = a) (eb : rd M' (sBs w) q = b) (ec : rd M' (sCs w) q = c) (el : ∀ k, k < nl → rd M' (sLi w) k = rd M (sLi w) k) : tOp A S w nl q o v u vs cls mem ks κ M' := by
  obtain ⟨h1, h2, h3, h4⟩ := h
  refine ⟨ea.trans h1, fun e => ⟨eb.trans (h2 e).1, ec.trans (h2 e).2⟩, fun e => ?_, h4⟩
  obtain ⟨lf, x, y, z, t⟩ := h3 e
  exact ⟨lf, eb.trans x, ec.trans y, z, fun j hj => (el _ (by omega)).trans (t j hj)⟩
theorem b8_62 {o : Nat} (h : o < 62) : (Int32.ofNat o).toInt8.toInt32.toInt8.toInt32 = Int32.ofNat o := by
  have key : ∀ o : Fin 62, (Int32.ofNat o.val).toInt8.toInt32.toInt8.toInt32 = Int32.ofNat o.val := by decide
  exact key ⟨o, h⟩
theorem XW_in {G : List Sl} {w : Nat} (hw : Gw G w) : (sOp w ∈ G ∧ sAs w ∈ G ∧ sBs w ∈ G ∧ sCs w ∈ G ∧ sCf w ∈ G) ∧ sLi w ∈ G ∧ sFl w ∈ G ∧ sFs w ∈ G ∧ sFf w ∈ G ∧ sFk w ∈ G := ⟨⟨hw _ (by simp), hw _ (by simp), hw _ (by simp), hw _ (by simp), hw _ (by simp)⟩, hw _ (by simp), hw _ (by simp), hw _ (by simp), hw _ (by simp), hw _ (by simp)⟩
theorem sl_ne {a b : Sl} (h : a.2.2.1 ≠ b.2.2.1) : a ≠ b := fun e => h (by rw [e])
/-- rows that have grown, and hold what they held -/
def Gn (G : List Sl) (X : List Sl) (n : Nat) (M M' : Mem) : Prop := GF G X M M' ∧ ∀ s ∈ X, (n + 1 ≤ rl M' s ∧ rl M s ≤ rl M' s) ∧ rl M' s ≤ 8000 ∧ ∀ k, k < n → rd M' s k = rd M s k
theorem Gn.nil {G : List Sl} {n : Nat} {M : Mem} (h : TG G M) : Gn G [] n M M := ⟨GF.rf h, fun s hs => by cases hs⟩
theorem Gn.step {G X : List Sl} {s : Sl} {n : Nat} {M M1 M2 : Mem} (h : Gn G X n M M1) (hs : s ∈ G) (hX : ∀ x ∈ X, x ∈ G) (hns : s ∉ X) (hn : n ≤ 3900) (hl : n ≤ rl M s) (hl8 : rl M s ≤ 8000) (g : Gr1 G [s] s (n + 1) M1 M2) : Gn G (s :: X) n M M2 := by
  have e := h.1.2.1 s hs hns
  have b := g.big (by omega) (by rw [e.2.1]; exact hl8)
  refine ⟨(h.1.sub (fun x hx => List.mem_cons_of_mem _ hx)).trans (g.1.sub (fun x hx => by rw [List.mem_singleton] at hx; rw [hx]; exact List.mem_cons_self)), fun x hx => ?_⟩
  rcases List.mem_cons.mp hx with q | q
  · subst q
    exact ⟨⟨b.2.1, by rw [← e.2.1]; exact b.2.2⟩, b.1, fun k hk => (g.2.2.1 k (by rw [e.2.1]; omega)).trans (e.1 k)⟩
  · have hne : x ≠ s := fun z => hns (z ▸ q)
    have y := g.1.2.1 x (hX x q) (by simpa using hne)
    obtain ⟨p1, p2, p3⟩ := h.2 x q
    exact ⟨by rw [y.2.1]; exact p1, by rw [y.2.1]; exact p2, fun k hk => (y.1 k).trans (p3 k hk)⟩
