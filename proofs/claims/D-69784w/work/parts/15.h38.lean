/-! SPEC: what is noted; who is there (printed by gen/ev.py) -/
def evOk (e : Ev) : Prop := e.2.2.1 < 51 ∧ ∀ j, e.2.2.2.1 = some j → j < 12
def unOk : Un → Prop
  | .inl f => f.1 < 51 ∧ f.2.1 < 12
  | .inr k => k.1 < 51
def EvA (s : Ms) : Prop := ∀ e ∈ zE s, evOk e
def EvB (t : Nat) (s : Ms) : Prop := EvA s ∧ ∀ u ∈ gU s t, unOk u
/-- methods of a class are few -/
def W12 (W : List Cls) : Prop := W.length ≤ 51 ∧ ∀ c, (gc W c).2.2.2.2.2.length ≤ 12
section
variable {br : Int32} {W : List Cls} {s s' s2 : Ms} {t c j a k : Nat} {lo st : List Vl} {U V : List Un} {q : Nat × Nat} {i : Ins}
theorem lock_EN {r n o : Int32} : zE (wLock s r n o) = zE s ∧ zN (wLock s r n o) = zN s := by
  unfold wLock
  split <;> exact ⟨rfl, rfl⟩
theorem doS_ind3 {P : Ms → Prop} {mOk : Nat × Nat → Prop} (hmq : isMo i.1 → mOk q) (hmw : ∀ d m, mthW W (iM i, iA i, iR i, 0, 0, 0, [], []) 5 d = some m → mOk m) (hnx : ∀ s' a' lo' st', (zE s' = zE s ∧ zN s' = zN s) → P (sU s' t (.inl (c, j, a', lo', st') :: U))) (hfail : ∀ f ru, P (failS W t s f ru)) (hunw : ∀ r, P (unw W t (gU s t) r s)) (hlv : ∀ o v, P (leaveS s t c j o v U)) (hent : ∀ V m args, mOk m → P (enterS W t s (.inl (c, j, a, lo, V) :: U) m.1 m.2 args)) : P (doS W t s c j a lo st U i q) := by
  have h1 : ∀ a' lo' st', P (sU s t (.inl (c, j, a', lo', st') :: U)) := fun a' lo' st' => hnx s a' lo' st' ⟨rfl, rfl⟩
  have hcl : isMo i.1 → P (cllS W t s c j a lo st U i q) := fun hmo => by
    unfold cllS
    have go : ∀ (m : Nat × Nat) (n : Nat), mOk m → P (if m.1 < 21 then sU s t (.inl (c, j, a + 1, lo, drp st n) :: U) else enterS W t s (.inl (c, j, a, lo, drp st n) :: U) m.1 m.2 (st.drop (st.length - n))) := fun m n hm => by
      split
      · exact h1 _ _ _
      · exact hent _ _ _ hm
    dsimp only
    by_cases c52 : i.1 = 52
    · rw [if_pos c52]; exact go q _ (hmq hmo)
    rw [if_neg c52]
    by_cases c0 : (tv st (iA i).length).1 = 0
    · rw [if_pos c0]; exact hfail _ _
    rw [if_neg c0]
    by_cases c4 : i.1 ≠ 51 ∧ (gmt (gc W q.1) q.2).2.2.2.1 &&& 4 = 0
    · rw [if_pos c4]
      refine ite_P (P := P) (fun _ => hfail _ _) (fun _ => ?_)
      cases clR s (tv st (iA i).length).1 with
      | none => exact hfail _ _
      | some d =>
        dsimp only
        cases em : mthW W (iM i, iA i, iR i, 0, 0, 0, [], []) 5 d with
        | none => exact hfail _ _
        | some m => exact ite_P (P := P) (fun _ => hfail _ _) (fun _ => go m _ (hmw d m em))
    rw [if_neg c4]
    by_cases c8 : ¬ (gmt (gc W q.1) q.2).2.2.2.1 &&& 8 = 0
    · rw [if_pos c8]; exact hfail _ _
    · rw [if_neg c8]; exact go q _ (hmq hmo)
  unfold doS
  dsimp only
  refine ite_P (P := P) (fun _ => ?_) (fun _ => ?_)
  · refine ite_P (P := P) (fun _ => ?_) (fun _ => ?_)
    · exact hfail _ _
    · exact h1 _ _ _
  refine ite_P (P := P) (fun _ => ?_) (fun _ => ?_)
  · exact h1 _ _ _
  refine ite_P (P := P) (fun _ => ?_) (fun _ => ?_)
  · exact h1 _ _ _
  refine ite_P (P := P) (fun _ => ?_) (fun _ => ?_)
  · exact h1 _ _ _
  refine ite_P (P := P) (fun _ => ?_) (fun _ => ?_)
  · exact h1 _ _ _
  refine ite_P (P := P) (fun _ => ?_) (fun _ => ?_)
  · refine ite_P (P := P) (fun _ => ?_) (fun _ => ?_)
    · exact hfail _ _
    · exact hnx _ _ _ _ ⟨rfl, rfl⟩
  refine ite_P (P := P) (fun _ => ?_) (fun _ => ?_)
  · refine ite_P (P := P) (fun _ => ?_) (fun _ => ?_)
    · exact hfail _ _
    refine ite_P (P := P) (fun _ => ?_) (fun _ => ?_)
    · exact hfail _ _
    · exact hnx _ _ _ _ ⟨rfl, rfl⟩
  refine ite_P (P := P) (fun _ => ?_) (fun _ => ?_)
  · exact h1 _ _ _
  refine ite_P (P := P) (fun _ => ?_) (fun _ => ?_)
  · exact hnx _ _ _ _ ⟨rfl, rfl⟩
  refine ite_P (P := P) (fun _ => ?_) (fun _ => ?_)
  · refine ite_P (P := P) (fun _ => ?_) (fun _ => ?_)
    · exact hfail _ _
    · exact h1 _ _ _
  refine ite_P (P := P) (fun _ => ?_) (fun _ => ?_)
  · refine ite_P (P := P) (fun _ => ?_) (fun _ => ?_)
    · exact hfail _ _
    · exact hnx _ _ _ _ ⟨rfl, rfl⟩
  refine ite_P (P := P) (fun _ => ?_) (fun _ => ?_)
  · refine ite_P (P := P) (fun _ => ?_) (fun _ => ?_)
    · exact hfail _ _
    · exact h1 _ _ _
  refine ite_P (P := P) (fun _ => ?_) (fun _ => ?_)
  · refine ite_P (P := P) (fun _ => ?_) (fun _ => ?_)
    · exact hfail _ _
    refine ite_P (P := P) (fun _ => ?_) (fun _ => ?_)
    · exact hfail _ _
    · exact h1 _ _ _
  refine ite_P (P := P) (fun _ => ?_) (fun _ => ?_)
  · refine ite_P (P := P) (fun _ => ?_) (fun _ => ?_)
    · exact hfail _ _
    refine ite_P (P := P) (fun _ => ?_) (fun _ => ?_)
    · exact hfail _ _
    · exact hnx _ _ _ _ ⟨rfl, rfl⟩
  refine ite_P (P := P) (fun _ => ?_) (fun _ => ?_)
  · refine ite_P (P := P) (fun _ => ?_) (fun _ => ?_)
    · exact hfail _ _
    · exact hnx _ _ _ _ lock_EN
  refine ite_P (P := P) (fun _ => ?_) (fun _ => ?_)
  · refine ite_P (P := P) (fun _ => ?_) (fun _ => ?_)
    · exact hfail _ _
    refine ite_P (P := P) (fun _ => ?_) (fun _ => ?_)
    · exact hfail _ _
    · exact hnx _ _ _ _ lock_EN
  refine ite_P (P := P) (fun hmo => ?_) (fun _ => ?_)
  · exact hcl hmo
  refine ite_P (P := P) (fun _ => ?_) (fun _ => ?_)
  · exact h1 _ _ _
  refine ite_P (P := P) (fun _ => ?_) (fun _ => ?_)
  · exact h1 _ _ _
  refine ite_P (P := P) (fun _ => ?_) (fun _ => ?_)
  · exact h1 _ _ _
  refine ite_P (P := P) (fun _ => ?_) (fun _ => ?_)
  · exact h1 _ _ _
  refine ite_P (P := P) (fun _ => ?_) (fun _ => ?_)
  · exact h1 _ _ _
  refine ite_P (P := P) (fun _ => ?_) (fun _ => ?_)
  · exact h1 _ _ _
  refine ite_P (P := P) (fun _ => ?_) (fun _ => ?_)
  · exact h1 _ _ _
  refine ite_P (P := P) (fun _ => ?_) (fun _ => ?_)
  · exact h1 _ _ _
  refine ite_P (P := P) (fun _ => ?_) (fun _ => ?_)
  · exact h1 _ _ _
  refine ite_P (P := P) (fun _ => ?_) (fun _ => ?_)
  · exact h1 _ _ _
  refine ite_P (P := P) (fun _ => ?_) (fun _ => ?_)
  · exact h1 _ _ _
  refine ite_P (P := P) (fun _ => ?_) (fun _ => ?_)
  · exact h1 _ _ _
  refine ite_P (P := P) (fun _ => ?_) (fun _ => ?_)
  · refine ite_P (P := P) (fun _ => ?_) (fun _ => ?_)
    · exact h1 _ _ _
    generalize fnd W (iK i) = od
    cases od with
    | none => exact hfail _ _
    | some d =>
      dsimp only
      refine ite_P (P := P) (fun _ => ?_) (fun _ => ?_)
      · exact h1 _ _ _
      refine ite_P (P := P) (fun _ => ?_) (fun _ => ?_)
      · exact h1 _ _ _
      · exact hfail _ _
  refine ite_P (P := P) (fun _ => ?_) (fun _ => ?_)
  · refine ite_P (P := P) (fun _ => ?_) (fun _ => ?_)
    · exact hfail _ _
    · exact hunw _
  refine ite_P (P := P) (fun _ => ?_) (fun _ => ?_)
  · exact hlv _ _
  · exact h1 _ _ _
theorem gc_in {c' : Nat} {x : Mth} (h : x ∈ (gc W c').2.2.2.2.2) : c' < W.length := by
  by_cases hc : c' < W.length
  · exact hc
  · have : gc W c' = gc [] 0 := by
      show W.getD c' _ = [].getD 0 _
      rw [List.getD_eq_getElem?_getD, List.getElem?_eq_none (by omega)]; rfl
    rw [this] at h; cases h
theorem W12.ok (hW : W12 W) {m : Nat × Nat} (h : m.2 < (gc W m.1).2.2.2.2.2.length) : m.1 < 51 ∧ m.2 < 12 := by
  have h1 := gc_in (W := W) (List.getElem_mem h)
  have := hW.1
  have := hW.2 m.1
  omega
theorem mthUp_in {x : Mth} {msk : Int32} : ∀ {n : Nat} {o : Option Nat} {m : Nat × Nat}, mthUp W x msk n o = some m → m.2 < (gc W m.1).2.2.2.2.2.length
  | 0, o, m, h => by cases h
  | n + 1, none, m, h => by cases h
  | n + 1, some u, m, h => by
    unfold mthUp at h
    cases e : ownQ x msk (gc W u).2.2.2.2.2 with
    | none => rw [e] at h; exact mthUp_in h
    | some j => rw [e] at h; cases h; exact (ownQ_lt e).1
theorem pkM_in {x : Mth} {msk : Int32} : ∀ {l : List Nat} {o : Option (Nat × Nat)} {m : Nat × Nat}, (∀ m, o = some m → m.2 < (gc W m.1).2.2.2.2.2.length) → l.foldl (pkM W x msk) o = some m → m.2 < (gc W m.1).2.2.2.2.2.length
  | [], o, m, h, e => h m e
  | d :: l, o, m, h, e => by
    refine pkM_in (l := l) (o := pkM W x msk o d) (fun m' e' => ?_) e
    unfold pkM at e'
    cases eo : ownQ x msk (gc W d).2.2.2.2.2 with
    | none => rw [eo] at e'; exact h m' e'
    | some j =>
      rw [eo] at e'
      have hj := (ownQ_lt eo).1
      cases o with
      | none => cases e'; exact hj
      | some q =>
        dsimp only at e'
        split at e'
        · cases e'; exact hj
        · exact h m' e'
theorem mthW_in {x : Mth} {msk : Int32} {d : Nat} {m : Nat × Nat} (h : mthW W x msk d = some m) : m.2 < (gc W m.1).2.2.2.2.2.length := by
  unfold mthW at h
  cases e : mthUp W x msk 52 (some d) with
  | some r => rw [e] at h; cases h; exact mthUp_in e
  | none => rw [e] at h; exact pkM_in (o := none) (fun m e => by cases e) h
theorem EvB.of (h : EvB t s) (e1 : zE s' = zE s) (e2 : zN s' = zN s) : EvB t s' := ⟨fun e he => h.1 e (by rw [← e1]; exact he), fun u hu => h.2 u (by show u ∈ lU (zN s t); rw [← e2]; exact hu)⟩
theorem EvB.ev {w' k' : Nat} {m : Option Nat} (h : EvB t s) (hk : k' < 51) (hm : ∀ j, m = some j → j < 12) : EvB t (evS s t w' k' m) := by
  refine ⟨fun e he => ?_, fun u hu => h.2 u (by rw [← ev_U (w' := w') (k' := k') (m := m)]; exact hu)⟩
  unfold evS at he
  split at he
  · rcases List.mem_append.mp he with z | z
    · exact h.1 e z
    · rw [List.mem_singleton.mp z]; exact ⟨hk, hm⟩
  · exact h.1 e he
theorem EvB.su (h : EvA s) (hV : ∀ u ∈ V, unOk u) : EvB t (sU s t V) := ⟨h, fun u hu => hV u (by rw [gU_sU] at hu; exact hu)⟩
theorem EvB.dn {x : Nat} {r : Int32 × Int32 × Int32 × Int32} (h : EvA s) : EvB t (yN s (up1 (zN s) t (qR (zN s t) x r))) := by
  refine ⟨h, fun u hu => ?_⟩
  have hu : u ∈ lU (up1 (zN s) t (qR (zN s t) x r) t) := hu
  rw [up1_s] at hu
  cases hu
theorem EvB.yc {f : Nat → Int32} (h : EvB t s) : EvB t (yC s f) := h.of rfl rfl
theorem EvB.ft {f : Nat} {ru : Int32} (h : EvB t s) : EvB t (addFt s f ru) := h.of rfl rfl
theorem EvB.unwd : ∀ (U : List Un) (r : Int32) (s : Ms), (∀ u ∈ U, unOk u) → EvB t s → EvB t (unw W t U r s)
  | [], r, s, _, h => EvB.dn h.1
  | .inr (k, own) :: U, r, s, hU, h => by
    have hk : k < 51 := hU _ (List.mem_cons_self ..)
    have hU' : ∀ u ∈ U, unOk u := fun u hu => hU u (List.mem_cons_of_mem _ hu)
    unfold unw
    have h1 : EvB t (evS (yC s (up1 (zC s) k 3)) t 6 k none) := (h.yc).ev hk (fun j z => by cases z)
    by_cases c1 : own = true ∧ bel W (clN s r) 10 = false
    · rw [if_pos c1]; exact EvB.unwd U _ _ hU' h1.ft
    · rw [if_neg c1]; exact EvB.unwd U _ _ hU' h1
  | .inl (c, j, a, lo, st) :: U, r, s, hU, h => by
    have hk : c < 51 ∧ j < 12 := hU _ (List.mem_cons_self ..)
    have hU' : ∀ u ∈ U, unOk u := fun u hu => hU u (List.mem_cons_of_mem _ hu)
    unfold unw
    cases ec : catH W a (clN s r) (hs (gmt (gc W c) j)) with
    | none => exact EvB.unwd U _ _ hU' (h.ev hk.1 (fun i z => by cases z; exact hk.2))
    | some g =>
      refine EvB.ev (EvB.su h.1 (fun u hu => ?_)) hk.1 (fun i z => by cases z; exact hk.2)
      rcases List.mem_cons.mp hu with z | z
      · rw [z]; exact hk
      · exact hU' u z
theorem EvB.fail {f : Nat} {ru : Int32} (h : EvB t s) : EvB t (failS W t s f ru) := EvB.unwd _ _ _ h.2 h.ft
theorem EvB.enter {c' j' : Nat} {args : List Vl} (h : EvB t s) (hc : c' < 51 ∧ j' < 12) (hV : ∀ u ∈ V, unOk u) : EvB t (enterS W t s V c' j' args) := by
  unfold enterS
  split
  · exact h.fail
  · refine EvB.ev (EvB.su h.1 (fun u hu => ?_)) hc.1 (fun i z => by cases z; exact hc.2)
    rcases List.mem_cons.mp hu with z | z
    · rw [z]; exact hc
    · exact hV u z
theorem EvB.begs (h : EvB t s) (hk : k < 51) : EvB t (begS W t s k) := by
  have h1 : EvB t (evS (yB (yO (yC s (up1 (zC s) k 1)) (up1 (zO s) k (Int32.ofNat t))) (zB s ++ [k])) t 4 k none) := EvB.ev (h.of rfl rfl) hk (fun j z => by cases z)
  unfold begS
  refine EvB.su h1.1 (fun u hu => ?_)
  rcases List.mem_cons.mp hu with z | z
  · rw [z]; exact hk
  · exact h.2 u z
theorem EvB.must (h : EvB t s) (hk : k < 51) : EvB t (mustS br W t s k).2.2 := by
  unfold mustS
  split
  · exact h
  split
  · split
    · exact h
    · refine ⟨h.1, fun u hu => h.2 u ?_⟩
      have hu : u ∈ lU (up1 (zN s) t (qW (zN s t) (some (.inr k))) t) := hu
      rw [up1_s] at hu
      exact hu
  split
  · exact h
  split
  · exact EvB.begs (s := yL s (lkN br W 60 (zL s) k).2) (h.of rfl rfl) hk
  · exact h.of rfl rfl
theorem EvB.leave {o : Nat} {v : Int32} (h : EvB t s) (hc : c < 51 ∧ j < 12) (hU : ∀ u ∈ U, unOk u) : EvB t (leaveS s t c j o v U) := by
  have h1 : EvB t (evS s t 2 c (some j)) := h.ev hc.1 (fun i z => by cases z; exact hc.2)
  cases U with
  | nil => exact EvB.dn h1.1
  | cons u U' =>
    have hu := hU u (List.mem_cons_self ..)
    have hU' : ∀ u ∈ U', unOk u := fun u hu => hU u (List.mem_cons_of_mem _ hu)
    cases u with
    | inr k =>
      obtain ⟨k, own⟩ := k
      exact EvB.ev (EvB.su (s := yC (evS s t 2 c (some j)) (up1 (zC s) k 2)) h1.1 hU') hu (fun j z => by cases z)
    | inl f =>
      obtain ⟨c', j', a', lo', st'⟩ := f
      refine EvB.su h1.1 (fun u hu' => ?_)
      rcases List.mem_cons.mp hu' with z | z
      · rw [z]; exact hu
      · exact hU' u z
theorem EvB.act (hW : W12 W) (h : EvB t s) (hg : gU s t = .inl (c, j, a, lo, st) :: U) (hq : isMo i.1 → q.2 < (gc W q.1).2.2.2.2.2.length) : EvB t (doS W t s c j a lo st U i q) := by
  have hu : ∀ u ∈ U, unOk u := fun u hu => h.2 u (by rw [hg]; exact List.mem_cons_of_mem _ hu)
  have hc : c < 51 ∧ j < 12 := h.2 (.inl (c, j, a, lo, st)) (by rw [hg]; exact List.mem_cons_self ..)
  have hf : ∀ a' lo' st', ∀ u ∈ (.inl (c, j, a', lo', st') :: U : List Un), unOk u := fun a' lo' st' u hu' => by
    rcases List.mem_cons.mp hu' with z | z
    · rw [z]; exact hc
    · exact hu u z
  exact doS_ind3 (P := EvB t) (mOk := fun m => m.2 < (gc W m.1).2.2.2.2.2.length) hq (fun d m em => mthW_in em) (fun s' a' lo' st' e => EvB.su (h.of e.1 e.2).1 (hf a' lo' st')) (fun f ru => h.fail) (fun r => EvB.unwd _ _ _ h.2 h) (fun o v => h.leave hc hu) (fun V' m args hm => h.enter (hW.ok hm) (hf a lo V'))
theorem EvB.tk {op : Nat} (h : EvB t s) : EvB t (tickS s t op) := ⟨h.1, fun u hu => h.2 u (by rw [tick_U] at hu; exact hu)⟩
theorem EvB.first (hW : W12 W) (h : EvB t s) : EvB t (firstS br W t s) := by
  unfold firstS
  cases ef : fMth br W (zL s) (lCa (zN s t)).1 (lCa (zN s t)).2.1 52 (fun _ => false) with
  | mk y L =>
    have h0 : EvB t (yL s L) := h.of rfl rfl
    cases y with
    | inl e => exact h0.fail
    | inr q =>
      obtain ⟨c0, hlk, -, hf1, -, -⟩ := fMth_in ef
      have hqm := fMth1_ok (fnd_lt (lkd_in hlk).1) hf1
      have hm := EvB.must (br := br) (W := W) (k := q.1) h0 (by have := hW.1; have := hqm.1; omega)
      dsimp only
      generalize mustS br W t (yL s L) q.1 = mr at hm
      obtain ⟨r0, e, s1⟩ := mr
      have hm : EvB t s1 := hm
      match r0 with
      | 0 => exact hm.enter (hW.ok hqm.2.1) (fun u hu => by cases hu)
      | 1 => exact hm
      | 2 => exact hm.fail
      | n + 3 => exact hm
theorem EvB.startg {own : Bool} (hW : W12 W) (h : EvB t s) (hg : gU s t = .inr (k, own) :: U) : EvB t (startG W t s k U) := by
  have hu : ∀ u ∈ U, unOk u := fun u hu => h.2 u (by rw [hg]; exact List.mem_cons_of_mem _ hu)
  have hk : k < 51 := h.2 (.inr (k, own)) (by rw [hg]; exact List.mem_cons_self ..)
  have hf : ∀ u ∈ (.inr (k, true) :: U : List Un), unOk u := fun u hu' => by
    rcases List.mem_cons.mp hu' with z | z
    · rw [z]; exact hk
    · exact hu u z
  unfold startG
  cases em : ownN nStart 0 (gc W k).2.2.2.2.2 with
  | some m =>
    have hm := (ownN_in em).2.1
    have := hW.2 k
    exact EvB.enter (EvB.su h.1 hf) ⟨hk, by omega⟩ hf
  | none => exact EvB.ev (EvB.su (s := yC s (up1 (zC s) k 2)) h.1 hu) hk (fun j z => by cases z)
theorem EvB.start {own : Bool} (hW : W12 W) (h : EvB t s) (hg : gU s t = .inr (k, own) :: U) (hk : k < W.length) : EvB t (startS br W t s k own U) := by
  unfold startS
  split
  · split
    · exact h
    · rename_i p ep
      have hp : p < 51 := by have := up_lt hk ep; have := hW.1; omega
      have hm := EvB.must (br := br) (W := W) (k := p) h hp
      have m2 := must_2 (br := br) (W := W) (t := t) (s := s) (k := p)
      generalize mustS br W t s p = mr at hm m2
      obtain ⟨r0, e, s1⟩ := mr
      have hm : EvB t s1 := hm
      match r0, m2 with
      | 0, m2 =>
        obtain ⟨L', e2⟩ := m2 (Or.inl rfl)
        have e2 : s1 = yL s L' := e2
        subst e2
        exact hm.startg hW hg
      | 1, _ => exact hm
      | 2, _ => exact hm.fail
      | n + 3, _ => exact hm
  · exact h.startg hW hg
theorem EvB.ins (hW : W12 W) (h : EvB t s) (hg : gU s t = .inl (c, j, a, lo, st) :: U) : EvB t (insS br W t s c j a lo st U) := by
  unfold insS
  dsimp only
  generalize gin (co (gmt (gc W c) j)) a = i
  split
  · refine ⟨h.1, fun u hu => h.2 u ?_⟩
    have hu : u ∈ lU (up1 (zN s) t (qW (zN s t) (some (.inl (tv st 0).1))) t) := hu
    rw [up1_s] at hu
    exact hu
  have hqk : ∀ q L, (if i.1 = 54 ∨ i.1 = 55 then ((.inr (0, 0), zL s) : FR) else fIns br W (zL s) c (gmt (gc W c) j) i) = (.inr q, L) → (strt i.1 → q.1 < W.length) ∧ (isMo i.1 → q.2 < (gc W q.1).2.2.2.2.2.length) := fun q L e => by
    by_cases c5 : i.1 = 54 ∨ i.1 = 55
    · exact ⟨fun z => by unfold strt at z; omega, fun z => by unfold isMo at z; omega⟩
    · rw [if_neg c5] at e
      obtain ⟨k1, k2, k3⟩ := fIns_lt e
      refine ⟨fun z => ?_, fun z => (k3 z).2⟩
      unfold strt at z
      rcases z with z | z | z | z
      · exact k1 z
      · exact (k2 (by rw [z]; decide)).1
      · exact (k2 (by rw [z]; decide)).1
      · exact (k3 (by rw [z]; decide)).1
  generalize (if i.1 = 54 ∨ i.1 = 55 then ((.inr (0, 0), zL s) : FR) else fIns br W (zL s) c (gmt (gc W c) j) i) = fr at hqk ⊢
  obtain ⟨y, L⟩ := fr
  have h0 : EvB t (yL s L) := h.of rfl rfl
  cases y with
  | inl e => exact (h0.tk).fail
  | inr q =>
    obtain ⟨qs, qm⟩ := hqk q L rfl
    dsimp only
    split
    · rename_i cs
      have hm := EvB.must (br := br) (W := W) (k := q.1) h0 (by have := qs cs; have := hW.1; omega)
      have m2 := must_2 (br := br) (W := W) (t := t) (s := yL s L) (k := q.1)
      generalize mustS br W t (yL s L) q.1 = mr at hm m2
      obtain ⟨r0, e, s1⟩ := mr
      have hm : EvB t s1 := hm
      match r0, m2 with
      | 0, m2 =>
        obtain ⟨L', e2⟩ := m2 (Or.inl rfl)
        have e2 : s1 = yL (yL s L) L' := e2
        subst e2
        exact (hm.tk).act hW (by rw [tick_U]; exact hg) qm
      | 1, _ => exact hm
      | 2, _ => exact (hm.tk).fail
      | n + 3, _ => exact hm
    · exact (h0.tk).act hW (by rw [tick_U]; exact hg) qm
theorem UO.uOk (hW : W12 W) : ∀ {U : List Un} {o : Option Kd}, UO W s t o U → ∀ u ∈ U, unOk u
  | [], _, _, u, hu => by cases hu
  | .inl f :: U, o, h, u, hu => by
    rcases List.mem_cons.mp hu with z | z
    · rw [z]
      have := hW.1
      have := h.1.1.2.1
      have := h.1.2.1
      have := hW.2 f.1
      exact ⟨by omega, by omega⟩
    · exact UO.uOk hW h.2.2 u z
  | .inr k :: U, o, h, u, hu => by
    rcases List.mem_cons.mp hu with z | z
    · rw [z]
      have := hW.1
      have := h.2.1.1.2
      show k.1 < 51
      omega
    · exact UO.uOk hW h.2.2 u z
/-- what is noted stays well formed -/
theorem EvA.adv (hW : W12 W) (h : EvA s) (hM : MO W s t none (gU s t)) : EvA (advS br W t s) := by
  have hB : EvB t s := ⟨h, UO.uOk hW hM.2.2.2.1.1⟩
  unfold advS
  cases hg : gU s t with
  | nil => exact (hB.first hW).1
  | cons u U =>
    cases u with
    | inr k =>
      obtain ⟨k, own⟩ := k
      have hk : k < W.length := by
        have := hM.2.2.2.1.1
        rw [hg] at this
        exact this.2.1.1.2
      exact (hB.start hW hg hk).1
    | inl f =>
      obtain ⟨c, j, a, lo, st⟩ := f
      exact (hB.ins hW hg).1
end
