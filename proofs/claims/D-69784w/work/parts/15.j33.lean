/-! for a trial in the twin -/
section
variable {G : List Sl} {w F : Nat} {M M' : Mem} {a : Int32} {r : Nat} {Q : Int32 → Mem → Prop} {Q' X : Mem → Prop} {b c : Int32} {L : Trl}
theorem sR_id {f i k : Nat} {v : Option (Nat × Nat)} (h : mR M f i k = v) : sR M f i k v = M := by
  subst h
  show (M.1, M.2.1, (fun f' i' k' => if f' = f ∧ i' = i ∧ k' = k then M.2.2.1 f i k else M.2.2.1 f' i' k'), M.2.2.2) = M
  have : (fun f' i' k' => if f' = f ∧ i' = i ∧ k' = k then M.2.2.1 f i k else M.2.2.1 f' i' k') = M.2.2.1 := by
    funext f' i' k'
    by_cases c : f' = f ∧ i' = i ∧ k' = k
    · rw [if_pos c, c.1, c.2.1, c.2.2]
    · rw [if_neg c]
  rw [this]
theorem rmT.sel {v : Nat} (h : rmT G w F M) (hx : Gx G w) : rmT G w F (sR M 11 0 45 (some (12, v))) := by
  obtain ⟨a, ⟨q1, q2, q3, q4, q5, q6⟩, c, d, e⟩ := h
  have f1 := sR_fr (M := M) (w := v)
  refine ⟨a, ⟨q1, q2, q3, q4, q5, fun t ht => ?_⟩, c, fun y hy => ?_, fun y hy => ⟨(e y hy).1, ?_⟩⟩
  · rw [mR_sR, if_neg (fun z => absurd z.1 (by decide))]; exact q6 t ht
  · rw [(rd_fr f1 hx.1 rfl (hx.2.2.2.1 y hy)).2]; exact d y hy
  · rw [(rd_fr f1 hx.1 rfl (e y hy).1).2]; exact (e y hy).2
/-- a row that is kept has its length -/
theorem rl_kp {s : Sl} {R : Nat} (hf : Fr R M M') (hTG : TG G M) (hs : s ∈ G) (hb : R.testBit (cd s.1 s.2.2.1) = false) : rl M' s = rl M s := by
  have e : rdI M' s = rdI M s := by unfold rdI; rw [hf.R hb]
  unfold rl
  rw [e]; exact hf.Lo (hTG s hs).1.2
theorem XLb.kp {R : Nat} (h : XLb M) (hf : Fr R M M') (hTG : TG G M) (hl : Gl G) (h9 : R.testBit (5000 + 109) = false := by rfl) (hb : XL.all (fun s => !R.testBit (cd s.1 s.2.2.1)) = true := by rfl) : XLb M' := by
  have k : ∀ s ∈ XL, rl M' s = rl M s := fun s hs => rl_kp hf hTG (hl s hs) (by
    have := List.all_eq_true.mp hb s hs
    simpa using this)
  exact ⟨(hf.L h9 0).trans h.1, fun s hs => by rw [k s hs]; exact h.2.1 s hs, by rw [k sNm (by simp)]; exact h.2.2⟩
theorem k_takeT (h : w_Model_take 0 r a (fun v M' => Fr F_Model_take M M' → Q v M') M) : w_Model_take 0 r a Q M := mf_w_Model_take (fun _ _ hf hp => hp hf) h
theorem k_cutT (h : w_Model_cutLine 0 r a b (fun v M' => Fr F_Model_cutLine M M' → Q v M') M) : w_Model_cutLine 0 r a b Q M := mf_w_Model_cutLine (fun _ _ hf hp => hp hf) h
theorem k_needT (h : w_Model_needWord 0 a (fun M' => Fr F_Model_needWord M M' → Q' M') (fun M' => X M') M) : w_Model_needWord 0 a Q' X M := mf_w_Model_needWord (fun _ hf hp => hp hf) (fun _ _ hp => hp) h
theorem k_callT (h : w_Model_callWords 0 (fun M' => Fr F_Model_callWords M M' → Q' M') (fun M' => X M') M) : w_Model_callWords 0 Q' X M := mf_w_Model_callWords (fun _ hf hp => hp hf) (fun _ _ hp => hp) h
theorem k_goT (h : w_Model_goOn 0 a (fun v M' => Fr F_Model_goOn M M' → Q v M') M) : w_Model_goOn 0 a Q M := mf_w_Model_goOn (fun _ _ hf hp => hp hf) h
theorem nl_last (h : L ≠ []) (h10 : (10 : Int32) ∉ L.getLastD []) : nl (pT (txt L)) (txt L).length (txt L.dropLast).length = (txt L).length - 1 := by
  have hl := txt_len h
  refine scn_to (pT_end _) (by omega) (fun i h1 h2 => ?_) ?_
  · rw [pT_in (by omega)]; exact txt_in h h10 h1 (by omega)
  · rw [pT_in (by omega)]; exact txt_10 h (by omega)
theorem lnsF_k {p : Nat → Int32} {n : Nat} (hp : tend p n) : ∀ f a, a ≤ n → ∀ l ∈ lnsF p n f a, okL l
  | 0, a, h => fun l hl => by cases hl
  | f + 1, a, h => by
    obtain ⟨n1, n2, n3, n4⟩ := nl_ok hp h
    have ho : okL (full (nl p n a) (tks p n a)) := fun t ht => by
      rcases full_mem ht with e | e
      · exact fun z => ((tks_ok hp _ a (Nat.le_refl _) (by omega) t e).2.2.1 z).2.2.2
      · rw [e]; intro z; exact absurd z (by simp)
    have rest : ∀ l ∈ (if nl p n a + 1 < n then lnsF p n f (nl p n a + 1) else []), okL l := by
      split
      · exact lnsF_k hp f _ (by omega)
      · exact fun l hl => by cases hl
    unfold lnsF
    split
    · exact rest
    · intro l hl2
      rcases List.mem_cons.1 hl2 with e | e
      · rw [e]; exact ho
      · exact rest l e
theorem lns_k {p : Nat → Int32} {n : Nat} (hp : tend p n) : ∀ l ∈ lns p n 0, okL l := lnsF_k hp _ 0 (Nat.zero_le _)
theorem gv_cvl (x : Nm × Nm × Kd × List Int32) : gvOk x (cvl x) := fun i hi => by
  show (x.2.2.2 ++ _).getD i 0 = _
  rw [List.getD_eq_getElem?_getD, List.getD_eq_getElem?_getD, List.getElem?_append_left hi]
end
