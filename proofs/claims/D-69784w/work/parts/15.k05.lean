/-! OPERATIONS ON WHAT IS NO WORLD (printed by gen/nw.py) -/
section
variable {on : Nat → Bool} {a c : Int32} {Q R : Int32 → Mem → Prop} {M : Mem}
theorem nwC (hOn : cOn on M) (hn : wOf on a = none) (h : R 0 M) : w_Works_isWorld 0 a R M := c_isWorld hOn (fun k _ _ _ z => by rw [hn] at z; cases z) (fun _ => h)
theorem nwCc (hOn : cOn on M) (hn : wOf on a = none) (h : R 0 M) : w_Works_isClass 0 a c R M := by
  unfold w_Works_isClass
  exact nwC hOn hn (itp rfl h)
theorem nwCt (hOn : cOn on M) (hn : wOf on a = none) (h : R 0 M) : w_Works_isThread 0 a c R M := by
  unfold w_Works_isThread
  exact nwC hOn hn (itp rfl h)
theorem nwT (hOn : tOn on M) (hn : wOf on a = none) (h : R 0 M) : w_Model_isWorld 0 a R M := ct_isWorld hOn (fun k _ _ _ z => by rw [hn] at z; cases z) (fun _ => h)
theorem nwTc (hOn : tOn on M) (hn : wOf on a = none) (h : R 0 M) : w_Model_isClass 0 a c R M := by
  unfold w_Model_isClass
  exact nwT hOn hn (itp rfl h)
theorem nw_Works_drop {a1 : Int32} {Q : Int32 → Mem → Prop} (hOn : cOn on M) (hn : wOf on a1 = none) (hQ : Q (-1) M) : w_Works_drop 0 a1 Q M := by
  unfold w_Works_drop
  exact nwC hOn hn (itp rfl hQ)
theorem nw_Works_define {a1 : Int32} {Q : Int32 → Mem → Prop} (hOn : cOn on M) (hn : wOf on a1 = none) (hQ : Q (-1) M) : w_Works_define 0 a1 Q M := by
  unfold w_Works_define
  exact nwC hOn hn (itp rfl hQ)
theorem nw_Works_classes {a1 : Int32} {Q : Int32 → Mem → Prop} (hOn : cOn on M) (hn : wOf on a1 = none) (hQ : Q (-1) M) : w_Works_classes 0 a1 Q M := by
  unfold w_Works_classes
  exact nwC hOn hn (itp rfl hQ)
theorem nw_Works_told {a1 a2 a3 : Int32} {Q : Int32 → Mem → Prop} (hOn : cOn on M) (hn : wOf on a1 = none) (hQ : Q (-1) M) : w_Works_told 0 a1 a2 a3 Q M := by
  unfold w_Works_told
  exact nwCc hOn hn (itp rfl hQ)
theorem nw_Works_name {a1 a2 a3 a4 a5 : Int32} {Q : Int32 → Mem → Prop} (hOn : cOn on M) (hn : wOf on a1 = none) (hQ : Q (-1) M) : w_Works_name 0 a1 a2 a3 a4 a5 Q M := by
  unfold w_Works_name
  exact nwCc hOn hn (itp rfl hQ)
theorem nw_Works_member {a1 a2 a3 a4 : Int32} {Q : Int32 → Mem → Prop} (hOn : cOn on M) (hn : wOf on a1 = none) (hQ : Q (-1) M) : w_Works_member 0 a1 a2 a3 a4 Q M := by
  unfold w_Works_member
  exact nwCc hOn hn (itp rfl hQ)
theorem nw_Works_link {a1 a2 : Int32} {Q : Int32 → Mem → Prop} (hOn : cOn on M) (hn : wOf on a1 = none) (hQ : Q (-1) M) : w_Works_link 0 a1 a2 Q M := by
  unfold w_Works_link
  exact nwCc hOn hn (itp rfl hQ)
theorem nw_Works_checked {a1 a2 : Int32} {Q : Int32 → Mem → Prop} (hOn : cOn on M) (hn : wOf on a1 = none) (hQ : Q (-1) M) : w_Works_checked 0 a1 a2 Q M := by
  unfold w_Works_checked
  exact nwC hOn hn (itp rfl hQ)
theorem nw_Works_call {a1 a2 : Int32} {Q : Int32 → Mem → Prop} (hOn : cOn on M) (hn : wOf on a1 = none) (hQ : Q (-1) M) : w_Works_call 0 a1 a2 Q M := by
  unfold w_Works_call
  exact nwCt hOn hn (itp rfl hQ)
theorem nw_Works_quantum {a1 a2 : Int32} {Q : Int32 → Mem → Prop} (hOn : cOn on M) (hn : wOf on a1 = none) (hQ : Q (-1) M) : w_Works_quantum 0 a1 a2 Q M := by
  unfold w_Works_quantum
  exact nwC hOn hn (itp rfl hQ)
theorem nw_Works_halt {a1 : Int32} {Q : Int32 → Mem → Prop} (hOn : cOn on M) (hn : wOf on a1 = none) (hQ : Q (-1) M) : w_Works_halt 0 a1 Q M := by
  unfold w_Works_halt
  exact nwC hOn hn (itp rfl hQ)
theorem nw_Works_step {a1 a2 : Int32} {Q : Int32 → Mem → Prop} (hOn : cOn on M) (hn : wOf on a1 = none) (hQ : Q (-1) M) : w_Works_step 0 a1 a2 Q M := by
  unfold w_Works_step
  exact nwC hOn hn (itp rfl hQ)
theorem nw_Works_run {a1 a2 a3 : Int32} {Q : Int32 → Mem → Prop} (hOn : cOn on M) (hn : wOf on a1 = none) (hQ : Q (-1) M) : w_Works_run 0 a1 a2 a3 Q M := by
  unfold w_Works_run
  exact nwCt hOn hn (itp rfl hQ)
theorem nw_Works_started {a1 a2 : Int32} {Q : Int32 → Mem → Prop} (hOn : cOn on M) (hn : wOf on a1 = none) (hQ : Q (-1) M) : w_Works_started 0 a1 a2 Q M := by
  unfold w_Works_started
  exact nwC hOn hn (itp rfl hQ)
theorem nw_Works_value {a1 a2 a3 a4 : Int32} {Q : Int32 → Mem → Prop} (hOn : cOn on M) (hn : wOf on a1 = none) (hQ : Q (-1) M) : w_Works_value 0 a1 a2 a3 a4 Q M := by
  unfold w_Works_value
  exact nwCt hOn hn (itp rfl hQ)
theorem nw_Works_fixed {a1 a2 a3 : Int32} {Q : Int32 → Mem → Prop} (hOn : cOn on M) (hn : wOf on a1 = none) (hQ : Q (-1) M) : w_Works_fixed 0 a1 a2 a3 Q M := by
  unfold w_Works_fixed
  exact nwCc hOn hn (itp rfl hQ)
theorem nw_Works_object {a1 a2 a3 : Int32} {Q : Int32 → Mem → Prop} (hOn : cOn on M) (hn : wOf on a1 = none) (hQ : Q (-1) M) : w_Works_object 0 a1 a2 a3 Q M := by
  unfold w_Works_object
  exact nwC hOn hn (itp rfl hQ)
theorem nw_Works_print {a1 a2 : Int32} {Q : Int32 → Mem → Prop} (hOn : cOn on M) (hn : wOf on a1 = none) (hQ : Q (-1) M) : w_Works_print 0 a1 a2 Q M := by
  unfold w_Works_print
  exact nwCc hOn hn (itp rfl hQ)
theorem nw_Works_kinds {a1 a2 a3 a4 : Int32} {Q : Int32 → Mem → Prop} (hOn : cOn on M) (hn : wOf on a1 = none) (hQ : Q (-1) M) : w_Works_kinds 0 a1 a2 a3 a4 Q M := by
  unfold w_Works_kinds
  exact nwCc hOn hn (itp rfl hQ)
theorem nw_Works_foretell {a1 a2 a3 a4 : Int32} {Q : Int32 → Mem → Prop} (hOn : cOn on M) (hn : wOf on a1 = none) (hQ : Q (-1) M) : w_Works_foretell 0 a1 a2 a3 a4 Q M := by
  unfold w_Works_foretell
  exact nwCc hOn hn (itp rfl hQ)
theorem nw_Works_asked {a1 a2 : Int32} {Q : Int32 → Mem → Prop} (hOn : cOn on M) (hn : wOf on a1 = none) (hQ : Q (-1) M) : w_Works_asked 0 a1 a2 Q M := by
  unfold w_Works_asked
  exact nwCc hOn hn (itp rfl hQ)
theorem nw_Works_trace {a1 a2 a3 : Int32} {Q : Int32 → Mem → Prop} (hOn : cOn on M) (hn : wOf on a1 = none) (hQ : Q (-1) M) : w_Works_trace 0 a1 a2 a3 Q M := by
  unfold w_Works_trace
  exact nwC hOn hn (itp rfl hQ)
theorem nw_Works_done {a1 a2 : Int32} {Q : Int32 → Mem → Prop} (hOn : cOn on M) (hn : wOf on a1 = none) (hQ : Q (-1) M) : w_Works_done 0 a1 a2 Q M := by
  unfold w_Works_done
  exact nwC hOn hn (itp rfl hQ)
theorem nw_Works_collect {a1 : Int32} {Q : Int32 → Mem → Prop} (hOn : cOn on M) (hn : wOf on a1 = none) (hQ : Q (-1) M) : w_Works_collect 0 a1 Q M := by
  unfold w_Works_collect
  exact nwC hOn hn (itp rfl hQ)
theorem nw_Works_differ {a1 a2 a3 a4 a5 : Int32} {Q : Int32 → Mem → Prop} (hOn : cOn on M) (hn : wOf on a1 = none) (hQ : Q (-1) M) : w_Works_differ 0 a1 a2 a3 a4 a5 Q M := by
  unfold w_Works_differ
  exact nwCc hOn hn (itp rfl hQ)
theorem nw_Works_reach {a1 a2 a3 : Int32} {Q : Int32 → Mem → Prop} (hOn : cOn on M) (hn : wOf on a1 = none) (hQ : Q (-1) M) : w_Works_reach 0 a1 a2 a3 Q M := by
  unfold w_Works_reach
  exact nwCc hOn hn (itp rfl hQ)
theorem nw_Model_drop {a1 : Int32} {Q : Int32 → Mem → Prop} (hOn : tOn on M) (hn : wOf on a1 = none) (hQ : Q (-1) M) : w_Model_drop 0 a1 Q M := by
  unfold w_Model_drop
  exact nwT hOn hn (itp rfl hQ)
theorem nw_Model_define {a1 : Int32} {Q : Int32 → Mem → Prop} (hOn : tOn on M) (hn : wOf on a1 = none) (hQ : Q (-1) M) : w_Model_define 0 a1 Q M := by
  unfold w_Model_define
  exact nwT hOn hn (itp rfl hQ)
theorem nw_Model_classes {a1 : Int32} {Q : Int32 → Mem → Prop} (hOn : tOn on M) (hn : wOf on a1 = none) (hQ : Q (-1) M) : w_Model_classes 0 a1 Q M := by
  unfold w_Model_classes
  exact nwT hOn hn (itp rfl hQ)
theorem nw_Model_told {a1 a2 a3 : Int32} {Q : Int32 → Mem → Prop} (hOn : tOn on M) (hn : wOf on a1 = none) (hQ : Q (-1) M) : w_Model_told 0 a1 a2 a3 Q M := by
  unfold w_Model_told
  exact nwTc hOn hn (itp rfl hQ)
theorem nw_Model_name {a1 a2 a3 a4 a5 : Int32} {Q : Int32 → Mem → Prop} (hOn : tOn on M) (hn : wOf on a1 = none) (hQ : Q (-1) M) : w_Model_name 0 a1 a2 a3 a4 a5 Q M := by
  unfold w_Model_name
  exact nwTc hOn hn (itp rfl hQ)
theorem nw_Model_member {a1 a2 a3 a4 : Int32} {Q : Int32 → Mem → Prop} (hOn : tOn on M) (hn : wOf on a1 = none) (hQ : Q (-1) M) : w_Model_member 0 a1 a2 a3 a4 Q M := by
  unfold w_Model_member
  exact nwTc hOn hn (itp rfl hQ)
theorem nw_Model_link {a1 a2 : Int32} {Q : Int32 → Mem → Prop} (hOn : tOn on M) (hn : wOf on a1 = none) (hQ : Q (-1) M) : w_Model_link 0 a1 a2 Q M := by
  unfold w_Model_link
  exact nwTc hOn hn (itp rfl hQ)
theorem nw_Model_checked {a1 a2 : Int32} {Q : Int32 → Mem → Prop} (hOn : tOn on M) (hn : wOf on a1 = none) (hQ : Q (-1) M) : w_Model_checked 0 a1 a2 Q M := by
  unfold w_Model_checked
  exact nwT hOn hn (itp rfl hQ)
theorem nw_Model_call {a1 a2 : Int32} {Q : Int32 → Mem → Prop} (hOn : tOn on M) (hn : wOf on a1 = none) (hQ : Q (-1) M) : w_Model_call 0 a1 a2 Q M := by
  unfold w_Model_call
  exact nwT hOn hn (itp rfl hQ)
theorem nw_Model_quantum {a1 a2 : Int32} {Q : Int32 → Mem → Prop} (hOn : tOn on M) (hn : wOf on a1 = none) (hQ : Q (-1) M) : w_Model_quantum 0 a1 a2 Q M := by
  unfold w_Model_quantum
  exact nwT hOn hn (itp rfl hQ)
theorem nw_Model_halt {a1 : Int32} {Q : Int32 → Mem → Prop} (hOn : tOn on M) (hn : wOf on a1 = none) (hQ : Q (-1) M) : w_Model_halt 0 a1 Q M := by
  unfold w_Model_halt
  exact nwT hOn hn (itp rfl hQ)
theorem nw_Model_step {a1 a2 : Int32} {Q : Int32 → Mem → Prop} (hOn : tOn on M) (hn : wOf on a1 = none) (hQ : Q (-1) M) : w_Model_step 0 a1 a2 Q M := by
  unfold w_Model_step
  exact nwT hOn hn (itp rfl hQ)
theorem nw_Model_run {a1 a2 a3 : Int32} {Q : Int32 → Mem → Prop} (hOn : tOn on M) (hn : wOf on a1 = none) (hQ : Q (-1) M) : w_Model_run 0 a1 a2 a3 Q M := by
  unfold w_Model_run
  exact nwT hOn hn (itp rfl hQ)
theorem nw_Model_started {a1 a2 : Int32} {Q : Int32 → Mem → Prop} (hOn : tOn on M) (hn : wOf on a1 = none) (hQ : Q (-1) M) : w_Model_started 0 a1 a2 Q M := by
  unfold w_Model_started
  exact nwT hOn hn (itp rfl hQ)
theorem nw_Model_value {a1 a2 a3 a4 : Int32} {Q : Int32 → Mem → Prop} (hOn : tOn on M) (hn : wOf on a1 = none) (hQ : Q (-1) M) : w_Model_value 0 a1 a2 a3 a4 Q M := by
  unfold w_Model_value
  exact nwT hOn hn (itp rfl hQ)
theorem nw_Model_fixed {a1 a2 a3 : Int32} {Q : Int32 → Mem → Prop} (hOn : tOn on M) (hn : wOf on a1 = none) (hQ : Q (-1) M) : w_Model_fixed 0 a1 a2 a3 Q M := by
  unfold w_Model_fixed
  exact nwTc hOn hn (itp rfl hQ)
theorem nw_Model_object {a1 a2 a3 : Int32} {Q : Int32 → Mem → Prop} (hOn : tOn on M) (hn : wOf on a1 = none) (hQ : Q (-1) M) : w_Model_object 0 a1 a2 a3 Q M := by
  unfold w_Model_object
  exact nwT hOn hn (itp rfl hQ)
theorem nw_Model_print {a1 a2 : Int32} {Q : Int32 → Mem → Prop} (hOn : tOn on M) (hn : wOf on a1 = none) (hQ : Q (-1) M) : w_Model_print 0 a1 a2 Q M := by
  unfold w_Model_print
  exact nwTc hOn hn (itp rfl hQ)
theorem nw_Model_kinds {a1 a2 a3 a4 : Int32} {Q : Int32 → Mem → Prop} (hOn : tOn on M) (hn : wOf on a1 = none) (hQ : Q (-1) M) : w_Model_kinds 0 a1 a2 a3 a4 Q M := by
  unfold w_Model_kinds
  exact nwTc hOn hn (itp rfl hQ)
theorem nw_Model_foretell {a1 a2 a3 a4 : Int32} {Q : Int32 → Mem → Prop} (hOn : tOn on M) (hn : wOf on a1 = none) (hQ : Q (-1) M) : w_Model_foretell 0 a1 a2 a3 a4 Q M := by
  unfold w_Model_foretell
  exact nwTc hOn hn (itp rfl hQ)
theorem nw_Model_asked {a1 a2 : Int32} {Q : Int32 → Mem → Prop} (hOn : tOn on M) (hn : wOf on a1 = none) (hQ : Q (-1) M) : w_Model_asked 0 a1 a2 Q M := by
  unfold w_Model_asked
  exact nwTc hOn hn (itp rfl hQ)
theorem nw_Model_trace {a1 a2 a3 : Int32} {Q : Int32 → Mem → Prop} (hOn : tOn on M) (hn : wOf on a1 = none) (hQ : Q (-1) M) : w_Model_trace 0 a1 a2 a3 Q M := by
  unfold w_Model_trace
  exact nwT hOn hn (itp rfl hQ)
theorem nw_Model_done {a1 a2 : Int32} {Q : Int32 → Mem → Prop} (hOn : tOn on M) (hn : wOf on a1 = none) (hQ : Q (-1) M) : w_Model_done 0 a1 a2 Q M := by
  unfold w_Model_done
  exact nwT hOn hn (itp rfl hQ)
theorem nw_Model_collect {a1 : Int32} {Q : Int32 → Mem → Prop} (hOn : tOn on M) (hn : wOf on a1 = none) (hQ : Q (-1) M) : w_Model_collect 0 a1 Q M := by
  unfold w_Model_collect
  exact nwT hOn hn (itp rfl hQ)
theorem nw_Model_differ {a1 a2 a3 a4 a5 : Int32} {Q : Int32 → Mem → Prop} (hOn : tOn on M) (hn : wOf on a1 = none) (hQ : Q (-1) M) : w_Model_differ 0 a1 a2 a3 a4 a5 Q M := by
  unfold w_Model_differ
  exact nwTc hOn hn (itp rfl hQ)
theorem nw_Model_reach {a1 a2 a3 : Int32} {Q : Int32 → Mem → Prop} (hOn : tOn on M) (hn : wOf on a1 = none) (hQ : Q (-1) M) : w_Model_reach 0 a1 a2 a3 Q M := by
  unfold w_Model_reach
  exact nwTc hOn hn (itp rfl hQ)
end
