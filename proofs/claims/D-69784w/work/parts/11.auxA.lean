/-! rows of rows -/
/-- an array of n rows of k places, the first j of them laid -/
def mmk (M : Mem) (f i n g b k : Nat) : Nat → Mem
  | 0 => mk M f i n
  | j + 1 => sR (mk (mmk M f i n g b k j) g (b + j) k) f i j (some (g, b + j))
section Multi
variable {γ : Gm} {κ κ' : Kp} {d d' pc : Nat} {lv : List (Option AV)} {st stk : List AV} {M M1 M' : Mem} {out : Out} {Q : Out → Mem → Prop}
theorem mN_mmk (f i n g b k : Nat) : ∀ j, mN (mmk M f i n g b k j) = mN M ++ (f, i) :: (List.range j).map (fun t => (g, b + t))
  | 0 => rfl
  | j + 1 => by
    show mN (mmk M f i n g b k j) ++ [(g, b + j)] = _
    rw [mN_mmk f i n g b k j, List.range_succ]; simp
theorem mS_mmk (f i n g b k : Nat) : ∀ j, mS (mmk M f i n g b k j) = mS M + n + j * k
  | 0 => by show mS M + n = _; omega
  | j + 1 => by
    show mS (mmk M f i n g b k j) + k = _
    rw [mS_mmk f i n g b k j, Nat.succ_mul]; omega
theorem len_mmk (f i n g b k j : Nat) : (mN (mmk M f i n g b k j)).length = (mN M).length + 1 + j := by
  rw [mN_mmk, List.length_append, List.length_cons, List.length_map, List.length_range]; omega
theorem new_mmk {f i n g b k j : Nat} (hfg : f ≠ g) (hfr : ∀ t, t < j + 1 → (g, b + t) ∉ mN M) : (g, b + j) ∉ mN (mmk M f i n g b k j) := by
  rw [mN_mmk]
  intro h
  rcases List.mem_append.mp h with h | h
  · exact hfr j (Nat.lt_succ_self j) h
  · rcases List.mem_cons.mp h with h | h
    · exact hfg (congrArg Prod.fst h).symm
    · obtain ⟨t, ht, e⟩ := List.mem_map.mp h
      have h1 := List.mem_range.mp ht
      have h2 := congrArg Prod.snd e
      dsimp only at h2
      omega
theorem Le_mmk {f i n g b k : Nat} (hfg : f ≠ g) (hi : (f, i) ∉ mN M) : ∀ {j : Nat}, (∀ t, t < j → (g, b + t) ∉ mN M) → Le M (mmk M f i n g b k j)
  | 0, _ => Le_mk hi
  | j + 1, hfr => (Le_mmk hfg hi (fun t ht => hfr t (by omega))).trans (Le_mk (new_mmk hfg hfr) : Le (mmk M f i n g b k j) (mk (mmk M f i n g b k j) g (b + j) k))
theorem mem_mmk {f i n g b k j : Nat} : (f, i) ∈ mN (mmk M f i n g b k j) := by rw [mN_mmk]; exact List.mem_append_right _ List.mem_cons_self
theorem mL_mmk {f i n g b k : Nat} (hfg : f ≠ g) : ∀ j, mL (mmk M f i n g b k j) f i = n
  | 0 => by simp [mmk, mL, mk]
  | j + 1 => by
    show mL (mk (mmk M f i n g b k j) g (b + j) k) f i = n
    rw [mL_mk (q := (f, i)) (fun e => hfg (congrArg Prod.fst e))]
    exact mL_mmk hfg j
theorem Cl_mmk {f i n g b k : Nat} (hfg : f ≠ g) (hi : (f, i) ∉ mN M) (h : Cl M) : ∀ {j : Nat}, (∀ t, t < j → (g, b + t) ∉ mN M) → Cl (mmk M f i n g b k j)
  | 0, _ => Cl_mk hi h
  | j + 1, hfr => Cl_sR (Or.inr (by rw [mN_mk]; exact List.mem_append_right _ (List.mem_singleton.mpr rfl))) (Cl_mk (new_mmk hfg hfr) (Cl_mmk hfg hi h (fun t ht => hfr t (by omega))))
theorem Lay_mmk {f i n g b k : Nat} (hf : 20 ≤ f) (hg : 20 ≤ g) (hF : ∀ x ∈ gF γ, x.1 < 20) (hfg : f ≠ g) (hi : (f, i) ∉ mN M) (h : Lay γ M) : ∀ {j : Nat}, (∀ t, t < j → (g, b + t) ∉ mN M) → Lay γ (mmk M f i n g b k j)
  | 0, _ => Lay_mk hi hf hF h
  | j + 1, hfr => Lay_sR hF hf (Lay_mk (new_mmk hfg hfr) hg hF (Lay_mmk hf hg hF hfg hi h (fun t ht => hfr t (by omega))))
/-- one row more -/
theorem Rl_mmk {f i n g b k j : Nat} {H H2 : Heap} {M' : Mem} (hf : 20 ≤ f) (hg : 20 ≤ g) (kf : ka f = 5) (kg : ka g = 1) (hfg : f ≠ g) (hfr : ∀ t, t < j + 1 → (g, b + t) ∉ mN M) (h : Rl γ (mmk M f i n g b k j) H)
    (hle : Le (mmk M f i n g b k (j + 1)) M') (hx : ∃ x, gN γ = mN M' ++ x) (hn : (gN γ).Nodup)
    (hH : H2 = (H.push { cls := gA γ 1, slots := Array.replicate k (.int 0), vm := .none }).setIfInBounds (ra γ (f, i)) ((arrV (gA γ 5) n (xv γ (mmk M f i n g b k j) f i)).setSlot j (.ref H.size))) : Rl γ (mmk M f i n g b k (j + 1)) H2 := by
  have hle1 : Le (mk (mmk M f i n g b k j) g (b + j) k) M' := hle
  have hra := new_ra hle1 hx hn (show g ≠ 0 by omega)
  have hHs : H.size = ra γ (g, b + j) := by rw [h.2.1, hra]
  have hall1 : ∀ q ∈ mN (mk (mmk M f i n g b k j) g (b + j) k), q ∈ gN γ := fun q hq => pfx_mem hle1 hx hq
  have hlt : ∀ q ∈ mN (mmk M f i n g b k j), ra γ q < H.size := fun q hq => holds_lt (h.1 q hq).2
  generalize hH1 : H.push ({ cls := gA γ 1, slots := Array.replicate k (.int 0), vm := .none } : Cell) = H1 at hH
  have y1 : H1[ra γ (g, b + j)]? = some (arrV (gA γ 1) k (fun _ => .int 0)) := by rw [← hH1, ← hHs, Array.getElem?_push_size, ← arrV_new]
  have y2 : H1.size = H.size + 1 := by rw [← hH1, Array.size_push]
  have y3 : ∀ q : Nat, q < H.size → H1[q]? = H[q]? := fun q hq => by rw [← hH1, Array.getElem?_push, if_neg (Nat.ne_of_lt hq)]
  have k1 : Rl γ (mk (mmk M f i n g b k j) g (b + j) k) H1 := by
    refine Rl_push (M' := M') h (new_mmk hfg hfr) (by omega) ?_ y2 y3 (fun q hq => hall1 q (by rw [mN_mk]; exact List.mem_append_left _ hq)) hlt
    unfold holds
    rw [if_neg (by dsimp only; omega), y1]
    have e1 : mL (mk (mmk M f i n g b k j) g (b + j) k) g (b + j) = k := by simp [mL, mk]
    rw [e1]
    dsimp only
    rw [kg]
    congr 2
    funext t
    simp [xv, kg, mI, mk]
  have hm : (f, i) ∈ mN (mk (mmk M f i n g b k j) g (b + j) k) := by rw [mN_mk]; exact List.mem_append_left _ mem_mmk
  have hlt0 : ra γ (f, i) < H1.size := by have := hlt _ (mem_mmk (M := M) (f := f) (i := i) (n := n) (g := g) (b := b) (k := k) (j := j)); omega
  refine Rl.upd k1 hm rfl hall1 (fun q hq K hK => holds_of (fv_sR hq) (xv_sR hq) rfl hK) ?_ (by rw [hH, Array.size_setIfInBounds]) (fun a ha => by rw [hH, Array.getElem?_setIfInBounds_ne (Ne.symm ha)])
  unfold holds
  rw [if_neg (by dsimp only; omega), hH]
  dsimp only
  rw [Array.getElem?_setIfInBounds_self_of_lt hlt0, arrV_store, kf]
  rw [mL_mmk hfg (j + 1)]
  congr 2
  funext t
  show _ = xv γ (sR (mk (mmk M f i n g b k j) g (b + j) k) f i j (some (g, b + j))) f i t
  have hne : (f, i) ≠ (g, b + j) := fun e => hfg (congrArg Prod.fst e)
  have e3 := congrFun (xv_mk (γ := γ) (M := mmk M f i n g b k j) (n := k) (q := (f, i)) hne) t
  dsimp only at e3
  by_cases ht : t = j
  · subst ht
    simp [updV, xv, kf, mR, sR, rv, hHs]
  · have e4 : xv γ (sR (mk (mmk M f i n g b k j) g (b + j) k) f i j (some (g, b + j))) f i t = xv γ (mk (mmk M f i n g b k j) g (b + j) k) f i t := by simp [xv, kf, mR, sR, ht]
    rw [e4, e3]
    simp [updV, ht]
end Multi
section Multi2
variable {γ : Gm} {κ κ' : Kp} {d d' pc : Nat} {lv : List (Option AV)} {st stk : List AV} {M M1 M' : Mem} {out : Out} {Q : Out → Mem → Prop}
variable {p : Program} {e : Env} {R : Room} {s T : State} {m : MethodId} {args : Array Value} {below : List Frame} {meth : Method} {c : Code} {locs : List Loc} {cells slots : Nat}
/-- the machine's state with j rows laid -/
def ust (γ : Gm) (M : Mem) (f i n g b k : Nat) (U0 : State) : Nat → State
  | 0 => U0.pushCell { cls := gA γ 5, slots := Array.replicate n Value.null }
  | j + 1 => ((ust γ M f i n g b k U0 j).pushCell { cls := gA γ 1, slots := Array.replicate k (.int 0) }).setCell (ra γ (f, i)) ((arrV (gA γ 5) n (xv γ (mmk M f i n g b k j) f i)).setSlot j (.ref (ust γ M f i n g b k U0 j).heap.size))
def UI (γ : Gm) (M : Mem) (f i n g b k : Nat) (p : Program) (e : Env) (R : Room) (s : State) (m : MethodId) (args : Array Value) (below : List Frame) (meth : Method) (c : Code) (cells slots : Nat) (vm₁ : Vm) (U : State) (j : Nat) : Prop :=
  ∃ L : List Loc, Stand p (gl γ) e R s m args below meth c U L (cells + 1 + j) (slots + n + j * k) ∧ (∀ q ∈ L, Aq γ q.base) ∧ Rl γ (mmk M f i n g b k j) U.heap ∧ U.vm = vm₁
theorem setTop_pushCell (U : State) (gg : JFrame) (x : Cell) : (U.setTop gg).pushCell x = (U.pushCell x).setTop gg := rfl
theorem setTop_setCell (U : State) (gg : JFrame) (a : Addr) (x : Cell) : (U.setTop gg).setCell a x = (U.setCell a x).setTop gg := rfl
end Multi2
section Multi3
variable {γ : Gm} {κ κ' : Kp} {d d' pc : Nat} {lv : List (Option AV)} {st stk : List AV} {M M1 M' : Mem} {out : Out}
variable {p : Program} {e : Env} {R : Room} {s T : State} {m : MethodId} {args : Array Value} {below : List Frame} {meth : Method} {c : Code} {locs : List Loc} {cells slots : Nat}
theorem wp_row {E : CtlPost} {dd : Bool} {acts : List Action} {s0 : State} {comp cc : ClassId} {kc : Class} {k : Int32} (hkc : s0.vm.classes[comp]? = some kc) (hkind : kc.kind = .array cc .byte) (hk : ¬ k < 0)
    (hl : ¬ k.toNatClampNeg > e.platform.arrayLengthLimit) (hh : ¬ k.toNatClampNeg * componentBytes .byte > e.platform.maxHeapBytes) (h1 : s0.heap.size < e.platform.maxCells) (h2 : s0.slotsUsed + k.toNatClampNeg ≤ e.platform.maxSlots)
    {Q : Addr → Pre} (hq : ∀ acts', Q s0.heap.size dd acts' (s0.pushCell { cls := comp, slots := Array.replicate k.toNatClampNeg (.int 0) })) : wp (multianewarray.make comp [k]) Q E e dd acts s0 := by
  unfold multianewarray.make
  simp only [wp_bind', W.ite, hk, if_false, wp_pure', W.theClass, hkc, Option.some.injEq, exists_eq_left', hkind]
  exact W.newArray_of hkc hkind hl hh h1 h2 rfl hq
theorem wp_rows {E : CtlPost} {dd : Bool} {acts : List Action} {U0 : State} {gg : JFrame} {vm₁ : Vm} {f i g b : Nat} {n k : Int32} {kA kB : Class} {cc : ClassId}
    (hf : 20 ≤ f) (hg : 20 ≤ g) (kf : ka f = 5) (kg : ka g = 1) (hfg : f ≠ g) (hi : (f, i) ∉ mN M) (hfr : ∀ t, t < n.toNatClampNeg → (g, b + t) ∉ mN M) (hn : ¬ n < 0) (hk : ¬ k < 0) (hnb : n.toNatClampNeg ≤ 1000000) (hkb : k.toNatClampNeg ≤ 1000000)
    (X : Stand p (gl γ) e R s m args below meth c U0 locs cells slots) (hloc : ∀ q ∈ locs, Aq γ q.base) (hR : Rl γ M U0.heap) (hvm : U0.vm = vm₁) (hA : vm₁.classes[gA γ 5]? = some kA) (hAk : kA.kind = .array (gA γ 1) (.array .byte)) (hB : vm₁.classes[gA γ 1]? = some kB) (hBk : kB.kind = .array cc .byte)
    (hle : Le (mmk M f i n.toNatClampNeg g b k.toNatClampNeg n.toNatClampNeg) M') (hx : ∃ x, gN γ = mN M' ++ x) (hnd : (gN γ).Nodup) (hc : cells + (1 + n.toNatClampNeg) ≤ R.cells) (hs : slots + (n.toNatClampNeg + n.toNatClampNeg * k.toNatClampNeg) ≤ R.slots)
    {Q : Addr → Pre} (hq : ∀ d' acts', UI γ M f i n.toNatClampNeg g b k.toNatClampNeg p e R s m args below meth c cells slots vm₁ (ust γ M f i n.toNatClampNeg g b k.toNatClampNeg U0 n.toNatClampNeg) n.toNatClampNeg → Q (ra γ (f, i)) d' acts' ((ust γ M f i n.toNatClampNeg g b k.toNatClampNeg U0 n.toNatClampNeg).setTop gg)) : UI γ M f i n.toNatClampNeg g b k.toNatClampNeg p e R s m args below meth c cells slots vm₁ (ust γ M f i n.toNatClampNeg g b k.toNatClampNeg U0 n.toNatClampNeg) n.toNatClampNeg ∧ wp (multianewarray.make (gA γ 5) [n, k]) Q E e dd acts (U0.setTop gg) := by
  have hl1 : ∀ z : Nat, z ≤ 1000000 → ¬ z > e.platform.arrayLengthLimit := fun z hz => by rw [Launch.admits_arrayLengthLimit X.admits]; omega
  have hh1 : ∀ z w : Nat, z ≤ 1000000 → w ≤ 8 → ¬ z * w > e.platform.maxHeapBytes := fun z w hz hw => by
    rw [Launch.admits_maxHeapBytes X.admits]
    have := Nat.mul_le_mul hz hw
    omega
  have hlej : ∀ j, j ≤ n.toNatClampNeg → Le (mmk M f i n.toNatClampNeg g b k.toNatClampNeg j) M' := by
    intro j hj
    have key : ∀ t, j + t ≤ n.toNatClampNeg → Le (mmk M f i n.toNatClampNeg g b k.toNatClampNeg j) (mmk M f i n.toNatClampNeg g b k.toNatClampNeg (j + t)) := by
      intro t
      induction t with
      | zero => intro _; exact Le.rf _
      | succ t ih => intro ht; exact (ih (by omega)).trans (Le_mk (new_mmk hfg (fun z hz => hfr z (by omega))) : Le (mmk M f i n.toNatClampNeg g b k.toNatClampNeg (j + t)) (mk (mmk M f i n.toNatClampNeg g b k.toNatClampNeg (j + t)) g (b + (j + t)) k.toNatClampNeg))
    have := key (n.toNatClampNeg - j) (by omega)
    rw [show j + (n.toNatClampNeg - j) = n.toNatClampNeg by omega] at this
    exact this.trans hle
  obtain ⟨r1, r2⟩ := X.roomAbove hc hs
  have hra := new_ra (hlej 0 (Nat.zero_le _)) hx hnd (show f ≠ 0 by omega)
  have hHs : U0.heap.size = ra γ (f, i) := by rw [hR.2.1, hra]
  have h0 : UI γ M f i n.toNatClampNeg g b k.toNatClampNeg p e R s m args below meth c cells slots vm₁ (ust γ M f i n.toNatClampNeg g b k.toNatClampNeg U0 0) 0 := by
    have X1 := X.pushed { cls := gA γ 5, slots := Array.replicate n.toNatClampNeg Value.null }
    rw [Array.size_replicate] at X1
    refine ⟨locs, by rw [Nat.add_zero, Nat.zero_mul, Nat.add_zero]; exact X1, hloc, ?_, hvm⟩
    show Rl γ (mk M f i n.toNatClampNeg) (U0.heap.push { cls := gA γ 5, slots := Array.replicate n.toNatClampNeg Value.null })
    refine Rl_push (M' := M') hR hi (by omega) ?_ (Array.size_push _) (fun q hq => by rw [Array.getElem?_push, if_neg (Nat.ne_of_lt hq)]) (fun q hq => pfx_mem (hlej 0 (Nat.zero_le _)) hx (by show q ∈ mN M ++ [(f, i)]; exact List.mem_append_left _ hq)) (fun q hq => holds_lt (hR.1 q hq).2)
    unfold holds
    rw [if_neg (by dsimp only; omega)]
    dsimp only
    rw [← hHs, Array.getElem?_push_size, kf, show mL (mk M f i n.toNatClampNeg) f i = n.toNatClampNeg by simp [mL, mk], arrV_new]
    congr 2
    funext t
    simp [xv, kf, mR, mk, rv]
  have h1 : ∀ x, x < n.toNatClampNeg → UI γ M f i n.toNatClampNeg g b k.toNatClampNeg p e R s m args below meth c cells slots vm₁ (ust γ M f i n.toNatClampNeg g b k.toNatClampNeg U0 x) x → UI γ M f i n.toNatClampNeg g b k.toNatClampNeg p e R s m args below meth c cells slots vm₁ (ust γ M f i n.toNatClampNeg g b k.toNatClampNeg U0 (x + 1)) (x + 1) ∧ (ust γ M f i n.toNatClampNeg g b k.toNatClampNeg U0 x).heap[ra γ (f, i)]? = some (arrV (gA γ 5) n.toNatClampNeg (xv γ (mmk M f i n.toNatClampNeg g b k.toNatClampNeg x) f i)) := by
    rintro x hlt ⟨L, XU, hL, hRU, hUv⟩
    generalize hU : ust γ M f i n.toNatClampNeg g b k.toNatClampNeg U0 x = U at XU hRU hUv
    have hmem : (f, i) ∈ mN (mmk M f i n.toNatClampNeg g b k.toNatClampNeg x) := mem_mmk
    have hout := arr_at hf hRU hmem
    rw [mL_mmk hfg x, kf] at hout
    refine ⟨?_, hout⟩
    have hlt0 : ra γ (f, i) < U.heap.size := (Array.getElem?_eq_some_iff.mp hout).1
    have hout1 : (U.pushCell { cls := gA γ 1, slots := Array.replicate k.toNatClampNeg (.int 0) }).heap[ra γ (f, i)]? = some (arrV (gA γ 5) n.toNatClampNeg (xv γ (mmk M f i n.toNatClampNeg g b k.toNatClampNeg x) f i)) := by
      show (U.heap.push _)[ra γ (f, i)]? = _
      rw [Array.getElem?_push, if_neg (Nat.ne_of_lt hlt0)]; exact hout
    have XP := (XU.pushed { cls := gA γ 1, slots := Array.replicate k.toNatClampNeg (.int 0) }).stored hout1 x (.ref U.heap.size)
    rw [Array.size_replicate] at XP
    rw [show ust γ M f i n.toNatClampNeg g b k.toNatClampNeg U0 (x + 1) = (U.pushCell { cls := gA γ 1, slots := Array.replicate k.toNatClampNeg (.int 0) }).setCell (ra γ (f, i)) ((arrV (gA γ 5) n.toNatClampNeg (xv γ (mmk M f i n.toNatClampNeg g b k.toNatClampNeg x) f i)).setSlot x (.ref U.heap.size)) by rw [← hU]; rfl]
    refine ⟨L ++ [⟨ra γ (f, i), x⟩], ?_, ?_, ?_, hUv⟩
    · rw [show cells + 1 + (x + 1) = cells + 1 + x + 1 by omega, show slots + n.toNatClampNeg + (x + 1) * k.toNatClampNeg = slots + n.toNatClampNeg + x * k.toNatClampNeg + k.toNatClampNeg by rw [Nat.succ_mul]; omega]
      exact XP
    · intro q hq
      rcases List.mem_append.mp hq with z | z
      · exact hL q z
      · rw [List.mem_singleton.mp z]; exact ra_ge (by dsimp only; omega)
    · exact Rl_mmk (M' := M') hf hg kf kg hfg (fun t ht => hfr t (by omega)) hRU (hlej (x + 1) hlt) hx hnd rfl
  have hall : ∀ x, x ≤ n.toNatClampNeg → UI γ M f i n.toNatClampNeg g b k.toNatClampNeg p e R s m args below meth c cells slots vm₁ (ust γ M f i n.toNatClampNeg g b k.toNatClampNeg U0 x) x := by
    intro x
    induction x with
    | zero => intro _; exact h0
    | succ x ih => intro hx'; exact (h1 x hx' (ih (by omega))).1
  refine ⟨hall _ (Nat.le_refl _), ?_⟩
  have hfind : ([k].find? (· < 0)) = none := by simp [hk]
  unfold multianewarray.make
  simp only [wp_bind', W.ite, hn, if_false, wp_pure', W.theClass, Option.some.injEq, exists_eq_left']
  refine ⟨kA, by show U0.vm.classes[gA γ 5]? = some kA; rw [hvm]; exact hA, ?_⟩
  simp only [hAk, wp_bind']
  refine W.newArray_of (k := kA) (comp := gA γ 1) (type := .array .byte) (by show U0.vm.classes[gA γ 5]? = some kA; rw [hvm]; exact hA) hAk (hl1 _ hnb) (hh1 _ _ hnb (by decide)) (by show U0.heap.size < _; omega) (by show U0.slotsUsed + _ ≤ _; have := Nat.zero_le (n.toNatClampNeg * k.toNatClampNeg); omega) rfl (fun acts' => ?_)
  simp only [hfind]
  rw [ite_self]
  simp only [wp_bind', wp_pure']
  have hsz : (U0.setTop gg).heap.size = ra γ (f, i) := hHs
  rw [hsz, Std.Legacy.Range.forIn_eq_forIn_range', show ([:n.toNatClampNeg] : Std.Legacy.Range).size = n.toNatClampNeg by simp [Std.Legacy.Range.size]]
  show wp (forIn (List.range' 0 n.toNatClampNeg 1) PUnit.unit _) _ E e dd acts' _
  refine wp_forIn_inv (fun rest s' => ∃ j, j ≤ n.toNatClampNeg ∧ rest = List.range' j (n.toNatClampNeg - j) ∧ s' = (ust γ M f i n.toNatClampNeg g b k.toNatClampNeg U0 j).setTop gg) _ _ ⟨0, Nat.zero_le _, rfl, rfl⟩ ?_ ?_
  · rintro x rest s' d' acts2 Q' ⟨j, hj, hl, rfl⟩ hnext
    have hlt : j < n.toNatClampNeg := by
      rcases Nat.lt_or_ge j n.toNatClampNeg with h | h
      · exact h
      · rw [show n.toNatClampNeg - j = 0 by omega] at hl; simp at hl
    rw [show n.toNatClampNeg - j = (n.toNatClampNeg - (j + 1)) + 1 by omega, List.range'_succ] at hl
    obtain ⟨rfl, hrest⟩ := List.cons.inj hl
    have hmul : x * k.toNatClampNeg + k.toNatClampNeg ≤ n.toNatClampNeg * k.toNatClampNeg := by
      have := Nat.mul_le_mul_right k.toNatClampNeg (show x + 1 ≤ n.toNatClampNeg from hlt)
      rw [Nat.succ_mul] at this; exact this
    have hx1 := h1 x hlt (hall x hj)
    have hnext' := fun d2 acts2 => hnext ((ust γ M f i n.toNatClampNeg g b k.toNatClampNeg U0 (x + 1)).setTop gg) d2 acts2 ⟨x + 1, hlt, hrest, rfl⟩
    obtain ⟨L, XU, hL, hRU, hUv⟩ := hall x hj
    have hout := hx1.2
    have hst : ust γ M f i n.toNatClampNeg g b k.toNatClampNeg U0 (x + 1) = ((ust γ M f i n.toNatClampNeg g b k.toNatClampNeg U0 x).pushCell { cls := gA γ 1, slots := Array.replicate k.toNatClampNeg (.int 0) }).setCell (ra γ (f, i)) ((arrV (gA γ 5) n.toNatClampNeg (xv γ (mmk M f i n.toNatClampNeg g b k.toNatClampNeg x) f i)).setSlot x (.ref (ust γ M f i n.toNatClampNeg g b k.toNatClampNeg U0 x).heap.size)) := rfl
    rw [hst] at hnext'
    generalize ust γ M f i n.toNatClampNeg g b k.toNatClampNeg U0 x = U at XU hRU hUv hout hnext'
    obtain ⟨q1, q2⟩ := XU.roomAbove (a := 1) (b := k.toNatClampNeg) (by omega) (by omega)
    simp only [wp_bind']
    refine wp_row (kc := kB) (cc := cc) (by show U.vm.classes[gA γ 1]? = some kB; rw [hUv]; exact hB) hBk hk (hl1 _ hkb) (hh1 _ _ hkb (by decide)) (by show U.heap.size < _; omega) (by show U.slotsUsed + _ ≤ _; omega) (fun acts3 => ?_)
    have hlt0 : ra γ (f, i) < U.heap.size := (Array.getElem?_eq_some_iff.mp hout).1
    have hout1 : (U.pushCell { cls := gA γ 1, slots := Array.replicate k.toNatClampNeg (.int 0) }).heap[ra γ (f, i)]? = some (arrV (gA γ 5) n.toNatClampNeg (xv γ (mmk M f i n.toNatClampNeg g b k.toNatClampNeg x) f i)) := by
      show (U.heap.push _)[ra γ (f, i)]? = _
      rw [Array.getElem?_push, if_neg (Nat.ne_of_lt hlt0)]; exact hout
    simp only [wp_bind', W.writeLoc, wp_pure']
    refine ⟨arrV (gA γ 5) n.toNatClampNeg (xv γ (mmk M f i n.toNatClampNeg g b k.toNatClampNeg x) f i), hout1, fun h => (by cases h), by rw [arrV_size]; exact hlt, ?_, hnext' _ _⟩
    have hv : U.vm.classes[gA γ 5]? = some kA := by rw [hUv]; exact hA
    simp [State.fitsSlot, State.slotType?, arrV, hv, hAk, fits]
  · rintro s' d' acts2 ⟨j, hj, hl, rfl⟩
    have : n.toNatClampNeg - j = 0 := by
      have := congrArg List.length hl
      simpa using this.symm
    rw [show j = n.toNatClampNeg by omega]
    exact hq _ _ (hall _ (Nat.le_refl _))
end Multi3
section Multi4
variable {γ : Gm} {κ κ' : Kp} {d d' pc : Nat} {lv : List (Option AV)} {st stk : List AV} {M M1 M' : Mem} {out : Out}
set_option maxHeartbeats 1000000 in
theorem J_multi {f i g b idx : Nat} {n k : Int32} (hXa : Xa γ) (hf : 20 ≤ f) (hg : 20 ≤ g) (kf : ka f = 5) (kg : ka g = 1) (hfg : f ≠ g) (hF : ∀ x ∈ gF γ, x.1 < 20) (hcl : Cond.classLink (ky κ).cls idx "[[B" ∈ tables_1) (hn : ¬ n < 0) (hk : ¬ k < 0) (hnb : n.toNatClampNeg ≤ 1000000) (hkb : k.toNatClampNeg ≤ 1000000)
    (hi : (f, i) ∉ mN M) (hfr : ∀ t, t < n.toNatClampNeg → (g, b + t) ∉ mN M) (hdg : decode (kc κ) pc = .ok (.multianewarray idx 2, 4))
    (h : J γ κ d (pc + 4) lv (vr (some (f, i)) :: st) (mmk M f i n.toNatClampNeg g b k.toNatClampNeg n.toNatClampNeg) out M') : J γ κ d pc lv (vi k :: vi n :: st) M out M' := by
  have hle0 := Le_mmk (n := n.toNatClampNeg) (k := k.toNatClampNeg) hfg hi hfr
  have hle := hle0.trans h.1
  have l2 := h.1.len
  have z2 := h.1.2.2
  rw [len_mmk] at l2
  rw [mS_mmk] at z2
  refine ⟨hle, fun p e R s m args below meth c H locs cells slots ls a1 a2 a3 a4 a5 a6 a7 a8 a9 a10 => ?_⟩
  obtain ⟨b1, b2, b3, b4, b5, b6, b7, b8, b9, b10⟩ := id a1
  obtain ⟨c1, c2, c3, c4, c5, c6⟩ := a2
  intro T hT X
  subst hT
  obtain ⟨kA, q1, q2⟩ := hXa
  obtain ⟨kA', q1', he'⟩ := b10.alike.2.2 _ _ q1
  have hk5 : kA'.kind = .array (gA γ 1) (.array .byte) := by rw [he']; exact q2
  obtain ⟨-, kB, hkB, cc, hkindB⟩ := (c2.2 1 (gA γ 1, .byte) rfl).1 1 (fun _ => .null)
  have hfc5 : s.vm.findClass "[[B" = some (gA γ 5) := (c2.2 5 (gA γ 5, .array .byte) rfl).2
  have hpl : e.platform.magicAccessors = ({} : Platform).magicAccessors := by rw [X.admits.platform]
  obtain ⟨c0, hfc0, hcl'⟩ := Cond.classLink_spec b4 (b5 _ hcl rfl) e.platform hpl
  cases hfc5.symm.trans hfc0
  obtain ⟨hg₁, hwarm₁, hready₁⟩ := State.classEntry (e := e) X.warmed hcl'
  generalize T.vm.noted m.cls idx (.cls (gA γ 5)) = vm₁ at hg₁ hwarm₁ hready₁
  obtain ⟨kA₁, hkA₁, heA⟩ := hwarm₁.alike.2.2 _ _ q1'
  obtain ⟨kB₁, hkB₁, heB⟩ := hwarm₁.alike.2.2 _ _ hkB
  have X₁ := X.noted hwarm₁
  have hsz : vm₁.classes.size ≤ T.vm.classes.size := by no_record
  have hd4 : decode c.code pc = .ok (.multianewarray idx 2, 4) := by rw [b2]; exact hdg
  have key := fun (E : CtlPost) (dd : Bool) (acts : List Action) (Q : Addr → Pre) hq => wp_rows (E := E) (dd := dd) (acts := acts) (Q := Q) (U0 := T.setVm vm₁) (gg := F0 m pc ls (st.map (rv γ))) (vm₁ := vm₁) (f := f) (i := i) (g := g) (b := b) (n := n) (k := k) hf hg kf kg hfg hi hfr hn hk hnb hkb X₁ c4 c1 rfl hkA₁ (by rw [heA]; exact hk5) hkB₁ (by rw [heB]; exact hkindB) h.1 a5 a6 (by omega) (by omega) hq
  obtain ⟨L, XU, hL, hRU, hUv⟩ := (key (fun _ _ _ => True) false [] (fun _ _ _ _ => True) (fun _ _ _ => trivial)).1
  have hmN : (f, i) ∈ mN (mmk M f i n.toNatClampNeg g b k.toNatClampNeg n.toNatClampNeg) := mem_mmk
  have hmem : ∀ q, q ∈ mN M → q ∈ mN (mmk M f i n.toNatClampNeg g b k.toNatClampNeg n.toNatClampNeg) := fun q hq => by rw [mN_mmk]; exact List.mem_append_left _ hq
  have hvok : ∀ w, vok M w → vok (mmk M f i n.toNatClampNeg g b k.toNatClampNeg n.toNatClampNeg) w := fun w hw => by
    match w, hw with
    | .inl _, _ => exact trivial
    | .inr (.inl _), _ => exact trivial
    | .inr (.inr none), _ => exact trivial
    | .inr (.inr (some z)), hz => exact hz.imp id (hmem z)
  obtain ⟨t, s1, s2⟩ := h.2 p e R s m args below meth c (ust γ M f i n.toNatClampNeg g b k.toNatClampNeg (T.setVm vm₁) n.toNatClampNeg).heap L (cells + 1 + n.toNatClampNeg) (slots + n.toNatClampNeg + n.toNatClampNeg * k.toNatClampNeg) ls a1 ⟨hRU, c2, c3, hL, Cl_mmk hfg hi c5 hfr, Lay_mmk hf hg hF hfg hi c6 hfr⟩ a3 ⟨fun w hw => by
      rcases List.mem_cons.mp hw with rfl | hw
      · exact Or.inr hmN
      · exact hvok w (a4.1 w (List.mem_cons_of_mem _ (List.mem_cons_of_mem _ hw))), fun w hw => hvok w (a4.2 w hw)⟩ a5 a6 a7 a8 (by rw [len_mmk]; omega) (by rw [mS_mmk]; omega) _ rfl XU
  rw [len_mmk, mS_mmk, show cells + 1 + n.toNatClampNeg + ((mN M').length - ((mN M).length + 1 + n.toNatClampNeg)) = cells + ((mN M').length - (mN M).length) by omega, show slots + n.toNatClampNeg + n.toNatClampNeg * k.toNatClampNeg + (mS M' - (mS M + n.toNatClampNeg + n.toNatClampNeg * k.toNatClampNeg)) = slots + (mS M' - mS M) by omega] at s2
  refine ⟨t, ?_, s2⟩
  jvm_step X.here [b1, hd4]
  simp only [multianewarray.sem, wp_bind']
  refine (W.resolveClassAt_links (State.method?_setTop _ X.here.top) hg₁ hsz).mpr ?_
  rw [wp_bind', W.popN, if_neg (by decide)]
  refine ⟨F0 m pc ls (rv γ (vi k) :: rv γ (vi n) :: st.map (rv γ)), State.topJava?_setTop' (s := T.setVm vm₁) _ X.here.top, [.int n, .int k], st.map (rv γ), rfl, rfl, ?_⟩
  simp only [List.mapM_cons, List.mapM_nil, wp_bind', wp_pure']
  have eS : ((T.setTop (F0 m pc ls (rv γ (vi k) :: rv γ (vi n) :: st.map (rv γ)))).setVm vm₁).setTop { F0 m pc ls (rv γ (vi k) :: rv γ (vi n) :: st.map (rv γ)) with stack := st.map (rv γ) } = (T.setVm vm₁).setTop (F0 m pc ls (st.map (rv γ))) := by
    show ((T.setVm vm₁).setTop _).setTop _ = _
    rw [State.setTop_setTop]
  rw [eS]
  refine (key _ _ _ _ (fun d' acts' _ => ?_)).2
  simp only [wp_bind', W.mark, W.pushRef, State.topJava?_setTop' _ XU.here.top, Option.some.injEq, exists_eq_left', State.setTop_setTop]
  intro acts
  rw [afterInstr_ok]
  exact s1
theorem E_multi {Q : Out → Mem → Prop} {f i g b idx : Nat} {n k : Int32} (hXa : Xa γ) (hf : 20 ≤ f) (hg : 20 ≤ g) (kf : ka f = 5) (kg : ka g = 1) (hfg : f ≠ g) (hF : ∀ x ∈ gF γ, x.1 < 20) (hcl : Cond.classLink (ky κ).cls idx "[[B" ∈ tables_1) (hn : ¬ n < 0) (hk : ¬ k < 0) (hnb : n.toNatClampNeg ≤ 1000000) (hkb : k.toNatClampNeg ≤ 1000000)
    (hi : (f, i) ∉ mN M) (hfr : ∀ t, t < n.toNatClampNeg → (g, b + t) ∉ mN M) (hdg : decode (kc κ) pc = .ok (.multianewarray idx 2, 4))
    (h : E γ κ d (pc + 4) lv (vr (some (f, i)) :: st) (mmk M f i n.toNatClampNeg g b k.toNatClampNeg n.toNatClampNeg) Q) : E γ κ d pc lv (vi k :: vi n :: st) M Q := E.up (fun _ _ hJ => J_multi hXa hf hg kf kg hfg hF hcl hn hk hnb hkb hi hfr hdg hJ) h
end Multi4
