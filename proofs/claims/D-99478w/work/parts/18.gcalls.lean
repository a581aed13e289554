/-! calls by kind, in two halves: jRun (the run of the callee) and its continuation by what comes back -/
section JRUN
variable {E : jE} {w : GW} {b : Nat × Nat} {L L' : List (Nat × Value)} {pc pc' : Nat} {st rest : List Value} {cc : ByteArray} {own : String}
def jRun (E : jE) (w : GW) (b : Nat × Nat) (L : List (Nat × Value)) (pc : Nat) (st rest : List Value) (mc ms : Nat) (Qa : State → Outcome → State → Prop) : Prop :=
  (mc ≤ b.1 ∧ ms ≤ b.2) ∧ ∀ (H : Heap) (locs : List Loc) (ls : Array Slot) (k n : Nat), k + b.1 ≤ E.1.2.2.2.1.cells → n + b.2 ≤ E.1.2.2.2.1.slots → GP E.2.2.1 E.2.2.2.1 w H → va_S E.2.2.2.1 E.1.2.2.2.2.1.heap H locs → lv_has ls E.2.2.2.2 L →
    va_Run E.1.1 E.1.2.1 E.1.2.2.1 E.1.2.2.2.1 E.1.2.2.2.2.1 E.1.2.2.2.2.2.1 E.1.2.2.2.2.2.2.1 E.1.2.2.2.2.2.2.2 E.2.1.1 E.2.1.2.1 H locs k n mc ms (F0 E.1.2.2.2.2.2.1 pc ls st) rest Qa E.2.2.2.1
theorem jc_i {mc ms : Nat} {av : Array Value} {K : Int32 → GW → Prop} (hr : jRun E w b L pc st rest mc ms (va_Qi K (gB E.2.2.1 E.2.2.2.1) E.2.2.2.1 av)) (k : ∀ (r : Int32) (u : GW), K r u → J E u (b.1 - mc, b.2 - ms) L (pc + 3) (.int r :: rest)) : J E w b L pc st := by
  intro H q ls x z h1 h2 hP hS hl
  refine va_calli (hr.2 H q ls x z h1 h2 hP hS hl) hS (fun q _ h => h) (fun _ h => h) (fun r u t H1 locs1 ht hvm hp hB hz hk hS1 => ?_)
  exact k r u hp H1 locs1 ls _ _ (jbud h1 hr.1.1) (jbud h2 hr.1.2) (by rw [← ht]; exact hB) hS1 hl
theorem jc_l {mc ms : Nat} {av : Array Value} {K : Int64 → GW → Prop} (hr : jRun E w b L pc st rest mc ms (va_Ql K (gB E.2.2.1 E.2.2.2.1) E.2.2.2.1 av)) (k : ∀ (r : Int64) (u : GW), K r u → J E u (b.1 - mc, b.2 - ms) L (pc + 3) (.long r :: rest)) : J E w b L pc st := by
  intro H q ls x z h1 h2 hP hS hl
  refine va_calll (hr.2 H q ls x z h1 h2 hP hS hl) hS (fun q _ h => h) (fun _ h => h) (fun r u t H1 locs1 ht hvm hp hB hz hk hS1 => ?_)
  exact k r u hp H1 locs1 ls _ _ (jbud h1 hr.1.1) (jbud h2 hr.1.2) (by rw [← ht]; exact hB) hS1 hl
theorem jc_v {mc ms : Nat} {av : Array Value} {K : GW → Prop} (hr : jRun E w b L pc st rest mc ms (va_Qv K (gB E.2.2.1 E.2.2.2.1) E.2.2.2.1 av)) (k : ∀ (u : GW), K u → J E u (b.1 - mc, b.2 - ms) L (pc + 3) rest) : J E w b L pc st := by
  intro H q ls x z h1 h2 hP hS hl
  refine va_callv (hr.2 H q ls x z h1 h2 hP hS hl) hS (fun q _ h => h) (fun _ h => h) (fun u t H1 locs1 ht hvm hp hB hz hk hS1 => ?_)
  exact k u hp H1 locs1 ls _ _ (jbud h1 hr.1.1) (jbud h2 hr.1.2) (by rw [← ht]; exact hB) hS1 hl
theorem jc_q {mc ms : Nat} {av : Array Value} {K : Option Nat → GW → Prop} (hr : jRun E w b L pc st rest mc ms (va_Qq K (gB E.2.2.1 E.2.2.2.1) E.2.2.2.1 av)) (k : ∀ (r : Option Nat) (u : GW), K r u → J E u (b.1 - mc, b.2 - ms) L (pc + 3) (va_rf r :: rest)) : J E w b L pc st := by
  intro H q ls x z h1 h2 hP hS hl
  refine va_callq (hr.2 H q ls x z h1 h2 hP hS hl) hS (fun q _ h => h) (fun _ h => h) (fun r u t H1 locs1 ht hvm hp hB hz hk hS1 => ?_)
  exact k r u hp H1 locs1 ls _ _ (jbud h1 hr.1.1) (jbud h2 hr.1.2) (by rw [← ht]; exact hB) hS1 hl
abbrev jMet (E : jE) (w : GW) (av : List Value) (y : MethodName) (bytes : ByteArray) (maxL : Nat) (ret : Option FieldType) (rm : Room) (Qc : Array Value → State → Outcome → State → Prop) : Prop := Met E.1.2.1 y (ws_ y bytes maxL ret) rm (va_Pc av (gPre E.2.2.1 E.2.2.2.1 w)) Qc rm.cells rm.slots E.2.2.2.1
section RUNS
variable {f lo : Nat} {y x : MethodName} {bytes : ByteArray} {maxL index a : Nat} {ret : Option FieldType} {rm : Room} {As : List Value} {Qc : Array Value → State → Outcome → State → Prop} {C host owner : String}
/-- a method found in the receiver's own class -/
theorem jr_V (hE : jOk E cc own) (hR : jRoom E f lo) (hM : jMet E w (.ref a :: As) y bytes maxL ret rm Qc) (hq : GoodIn lw_all (wsV own index y.cls y (ws_ y bytes maxL ret))) (hd : jD y As.length) (hf : rm.frames + 1 ≤ f ∧ 8 + (maxL + 11) + rm.locals ≤ lo) (hm : rm.cells ≤ b.1 ∧ rm.slots ≤ b.2) (hc : gIs w a y.cls) (hst : st = As.reverse ++ .ref a :: rest) (hcat : (rest.map fun v => v.category).sum ≤ 8) (d : decode cc pc = .ok (.invokevirtual index, 3)) : jRun E w b L pc st rest rm.cells rm.slots (Qc (.ref a :: As).toArray) := by
  refine ⟨hm, fun H q ls x z h1 h2 hP hS hl => ?_⟩
  subst hst
  exact va_runV hE.fix hM (cwV As.length hE.ts hq rfl rfl rfl ⟨rfl, hd⟩ ⟨Nat.le_trans hf.1 hR.1, Nat.le_trans hf.2 hR.2⟩) ⟨gPre_blind, hc.recv hE hP hS, fun U hU hW => ⟨rfl, hE.pre hP hS hU hW⟩⟩ rfl rfl hl.1 rfl (lv_room hcat) d ⟨jbud' h1 hm.1, jbud' h2 hm.2⟩
theorem jr_S (hE : jOk E cc own) (hR : jRoom E f lo) (hM : jMet E w As y bytes maxL ret rm Qc) (hq : GoodIn lw_all (va_wsS own index y (ws_ y bytes maxL ret))) (hd : jD y As.length) (hf : rm.frames + 1 ≤ f ∧ 8 + (maxL + 11) + rm.locals ≤ lo) (hm : rm.cells ≤ b.1 ∧ rm.slots ≤ b.2) (hst : st = As.reverse ++ rest) (hcat : (rest.map fun v => v.category).sum ≤ 8) (d : decode cc pc = .ok (.invokestatic index, 3)) : jRun E w b L pc st rest rm.cells rm.slots (Qc As.toArray) := by
  refine ⟨hm, fun H q ls x z h1 h2 hP hS hl => ?_⟩
  subst hst
  exact va_runS hE.fix hM (va_cwS As.length hE.ts hq rfl rfl rfl hd ⟨Nat.le_trans hf.1 hR.1, Nat.le_trans hf.2 hR.2⟩) ⟨gPre_blind, fun U hU hW => ⟨rfl, hE.pre hP hS hU hW⟩⟩ rfl rfl hl.1 rfl (lv_room hcat) d ⟨jbud' h1 hm.1, jbud' h2 hm.2⟩
/-- a constructor, of the same class, another's or the superclass's -/
theorem jr_I (hE : jOk E cc own) (hR : jRoom E f lo) (hM : jMet E w (.ref a :: As) y bytes maxL none rm Qc) (hq : GoodIn lw_all (ws_ y bytes maxL none)) (hini : Cond.initialized y.cls ∈ lw_all) (hl0 : Cond.methodLink own index y ∈ lw_all) (hin : Cond.instanceMethod y ∈ lw_all) (hy : y.name = "<init>") (hd : jD y As.length) (hf : rm.frames + 1 ≤ f ∧ 8 + (maxL + 11) + rm.locals ≤ lo) (hm : rm.cells ≤ b.1 ∧ rm.slots ≤ b.2) (hst : st = As.reverse ++ .ref a :: rest) (hcat : (rest.map fun v => v.category).sum ≤ 8) (d : decode cc pc = .ok (.invokespecial index, 3)) : jRun E w b L pc st rest rm.cells rm.slots (Qc (.ref a :: As).toArray) := by
  refine ⟨hm, fun H q ls x z h1 h2 hP hS hl => ?_⟩
  subst hst
  exact va_runI hE.fix hM (cwI As.length hE.ts hq rfl rfl rfl (hE.ts _ hini) (hE.ts _ hl0) (hE.ts _ hin) hy hd ⟨Nat.le_trans hf.1 hR.1, Nat.le_trans hf.2 hR.2⟩) ⟨gPre_blind, fun U hU hW => ⟨rfl, hE.pre hP hS hU hW⟩⟩ rfl rfl hl.1 rfl (lv_room hcat) d ⟨jbud' h1 hm.1, jbud' h2 hm.2⟩
theorem jr_IN (hE : jOk E cc own) (hR : jRoom E f lo) (hM : jMet E w (.ref a :: As) y bytes maxL none rm Qc) (hq : GoodIn lw_all (ws_ y bytes maxL none)) (hini : Cond.initialized y.cls ∈ lw_all) (hl0 : Cond.methodLinkNest own index y host ∈ lw_tbl) (hin : Cond.instanceMethod y ∈ lw_all) (hy : y.name = "<init>") (hd : jD y As.length) (hf : rm.frames + 1 ≤ f ∧ 8 + (maxL + 11) + rm.locals ≤ lo) (hm : rm.cells ≤ b.1 ∧ rm.slots ≤ b.2) (hst : st = As.reverse ++ .ref a :: rest) (hcat : (rest.map fun v => v.category).sum ≤ 8) (d : decode cc pc = .ok (.invokespecial index, 3)) : jRun E w b L pc st rest rm.cells rm.slots (Qc (.ref a :: As).toArray) := by
  refine ⟨hm, fun H q ls x z h1 h2 hP hS hl => ?_⟩
  subst hst
  exact va_runIN hE.fix hM ⟨va_cnB As.length hE.ts hq rfl rfl rfl (hE.nw _ hl0 rfl) (hE.ts _ hini) hd ⟨Nat.le_trans hf.1 hR.1, Nat.le_trans hf.2 hR.2⟩, hy, hE.ts _ hin⟩ ⟨gPre_blind, fun U hU hW => ⟨rfl, hE.pre hP hS hU hW⟩⟩ rfl rfl hl.1 rfl (lv_room hcat) d ⟨jbud' h1 hm.1, jbud' h2 hm.2⟩
theorem jr_VN (hE : jOk E cc own) (hR : jRoom E f lo) (hM : jMet E w (.ref a :: As) y bytes maxL ret rm Qc) (hq : GoodIn lw_all (ws_ y bytes maxL ret)) (hini : Cond.initialized y.cls ∈ lw_all) (hl0 : Cond.methodLinkNest own index y host ∈ lw_tbl) (hin : Cond.instanceMethod y ∈ lw_all) (hsel : Cond.selects y.cls y y ∈ lw_all) (hd : jD y As.length) (hf : rm.frames + 1 ≤ f ∧ 8 + (maxL + 11) + rm.locals ≤ lo) (hm : rm.cells ≤ b.1 ∧ rm.slots ≤ b.2) (hc : gIs w a y.cls) (hst : st = As.reverse ++ .ref a :: rest) (hcat : (rest.map fun v => v.category).sum ≤ 8) (d : decode cc pc = .ok (.invokevirtual index, 3)) : jRun E w b L pc st rest rm.cells rm.slots (Qc (.ref a :: As).toArray) := by
  refine ⟨hm, fun H q ls x z h1 h2 hP hS hl => ?_⟩
  subst hst
  exact va_runVN hE.fix hM ⟨va_cnB As.length hE.ts hq rfl rfl rfl (hE.nw _ hl0 rfl) (hE.ts _ hini) hd ⟨Nat.le_trans hf.1 hR.1, Nat.le_trans hf.2 hR.2⟩, hE.ts _ hin, hE.ts _ hsel⟩ ⟨gPre_blind, hc.recv hE hP hS, fun U hU hW => ⟨rfl, hE.pre hP hS hU hW⟩⟩ rfl rfl hl.1 rfl (lv_room hcat) d ⟨jbud' h1 hm.1, jbud' h2 hm.2⟩
theorem jr_SN (hE : jOk E cc own) (hR : jRoom E f lo) (hM : jMet E w As y bytes maxL ret rm Qc) (hq : GoodIn lw_all (ws_ y bytes maxL ret)) (hini : Cond.initialized y.cls ∈ lw_all) (hl0 : Cond.methodLinkNest own index y host ∈ lw_tbl) (hst0 : Cond.static y ∈ lw_all) (hd : jD y As.length) (hf : rm.frames + 1 ≤ f ∧ 8 + (maxL + 11) + rm.locals ≤ lo) (hm : rm.cells ≤ b.1 ∧ rm.slots ≤ b.2) (hst : st = As.reverse ++ rest) (hcat : (rest.map fun v => v.category).sum ≤ 8) (d : decode cc pc = .ok (.invokestatic index, 3)) : jRun E w b L pc st rest rm.cells rm.slots (Qc As.toArray) := by
  refine ⟨hm, fun H q ls x z h1 h2 hP hS hl => ?_⟩
  subst hst
  exact va_runSN hE.fix hM ⟨va_cnB As.length hE.ts hq rfl rfl rfl (hE.nw _ hl0 rfl) (hE.ts _ hini) hd ⟨Nat.le_trans hf.1 hR.1, Nat.le_trans hf.2 hR.2⟩, hE.ts _ hst0, trivial⟩ ⟨gPre_blind, fun U hU hW => ⟨rfl, hE.pre hP hS hU hW⟩⟩ rfl rfl hl.1 rfl (lv_room hcat) d ⟨jbud' h1 hm.1, jbud' h2 hm.2⟩
/-- an inherited method: found in a superclass of the receiver's class -/
theorem jr_U (hE : jOk E cc own) (hR : jRoom E f lo) (hM : jMet E w (.ref a :: As) y bytes maxL ret rm Qc) (hq : GoodIn lw_all (va_wsU own index C owner x y (ws_ y bytes maxL ret))) (hyx : y = ⟨owner, x.name, x.desc⟩) (hd : owner ≠ "java/lang/invoke/MethodHandle" ∧ owner ≠ "java/lang/invoke/VarHandle" ∧ (parseMethodDescriptor x.desc).map (fun d => d.parameters.length) = some As.length) (hf : rm.frames + 1 ≤ f ∧ 8 + (maxL + 11) + rm.locals ≤ lo) (hm : rm.cells ≤ b.1 ∧ rm.slots ≤ b.2) (hc : gIs w a C) (hst : st = As.reverse ++ .ref a :: rest) (hcat : (rest.map fun v => v.category).sum ≤ 8) (d : decode cc pc = .ok (.invokevirtual index, 3)) : jRun E w b L pc st rest rm.cells rm.slots (Qc (.ref a :: As).toArray) := by
  refine ⟨hm, fun H q ls x z h1 h2 hP hS hl => ?_⟩
  subst hst
  exact va_runU hE.fix hM (va_cwU As.length hE.ts hq rfl rfl rfl hyx hd ⟨Nat.le_trans hf.1 hR.1, Nat.le_trans hf.2 hR.2⟩) ⟨gPre_blind, hc.recv hE hP hS, fun U hU hW => ⟨rfl, hE.pre hP hS hU hW⟩⟩ rfl rfl hl.1 rfl (lv_room hcat) d ⟨jbud' h1 hm.1, jbud' h2 hm.2⟩
/-- an overriding method: x is named, the receiver's class has y -/
theorem jr_O (hE : jOk E cc own) (hR : jRoom E f lo) (hM : jMet E w (.ref a :: As) y bytes maxL ret rm Qc) (hq : GoodIn lw_all (va_wsO own index C owner x y (ws_ y bytes maxL ret))) {b0 : ByteArray} {m0 : Nat} {r0 : Option FieldType} (hcd : Cond.code ⟨owner, x.name, x.desc⟩ b0 m0 r0 ∈ lw_all) (hd : owner ≠ "java/lang/invoke/MethodHandle" ∧ owner ≠ "java/lang/invoke/VarHandle" ∧ (parseMethodDescriptor x.desc).map (fun d => d.parameters.length) = some As.length) (hf : rm.frames + 1 ≤ f ∧ 8 + (maxL + 11) + rm.locals ≤ lo) (hm : rm.cells ≤ b.1 ∧ rm.slots ≤ b.2) (hc : gIs w a C) (hst : st = As.reverse ++ .ref a :: rest) (hcat : (rest.map fun v => v.category).sum ≤ 8) (d : decode cc pc = .ok (.invokevirtual index, 3)) : jRun E w b L pc st rest rm.cells rm.slots (Qc (.ref a :: As).toArray) := by
  refine ⟨hm, fun H q ls x z h1 h2 hP hS hl => ?_⟩
  subst hst
  exact va_runU hE.fix hM (va_cwO As.length hE.ts hq rfl rfl rfl hcd hd ⟨Nat.le_trans hf.1 hR.1, Nat.le_trans hf.2 hR.2⟩) ⟨gPre_blind, hc.recv hE hP hS, fun U hU hW => ⟨rfl, hE.pre hP hS hU hW⟩⟩ rfl rfl hl.1 rfl (lv_room hcat) d ⟨jbud' h1 hm.1, jbud' h2 hm.2⟩
/-- an abstract method: the receiver's class has y -/
theorem jr_A (hE : jOk E cc own) (hR : jRoom E f lo) (hM : jMet E w (.ref a :: As) y bytes maxL ret rm Qc) (hq : GoodIn lw_all (va_wsU own index C owner x y (ws_ y bytes maxL ret))) (hz : Cond.declares ⟨owner, x.name, x.desc⟩ ∈ lw_tbl) (hd : owner ≠ "java/lang/invoke/MethodHandle" ∧ owner ≠ "java/lang/invoke/VarHandle" ∧ (parseMethodDescriptor x.desc).map (fun d => d.parameters.length) = some As.length) (hf : rm.frames + 1 ≤ f ∧ 8 + (maxL + 11) + rm.locals ≤ lo) (hm : rm.cells ≤ b.1 ∧ rm.slots ≤ b.2) (hc : gIs w a C) (hst : st = As.reverse ++ .ref a :: rest) (hcat : (rest.map fun v => v.category).sum ≤ 8) (d : decode cc pc = .ok (.invokevirtual index, 3)) : jRun E w b L pc st rest rm.cells rm.slots (Qc (.ref a :: As).toArray) := by
  refine ⟨hm, fun H q ls x z h1 h2 hP hS hl => ?_⟩
  subst hst
  exact va_runU hE.fix hM (va_cwA As.length hE.ts hq rfl rfl rfl (hE.nw _ hz rfl) hd ⟨Nat.le_trans hf.1 hR.1, Nat.le_trans hf.2 hR.2⟩) ⟨gPre_blind, hc.recv hE hP hS, fun U hU hW => ⟨rfl, hE.pre hP hS hU hW⟩⟩ rfl rfl hl.1 rfl (lv_room hcat) d ⟨jbud' h1 hm.1, jbud' h2 hm.2⟩
/-- a private method of a superclass, on an object of a class below it -/
theorem jr_X (hE : jOk E cc own) (hR : jRoom E f lo) (hM : jMet E w (.ref a :: As) y bytes maxL ret rm Qc) (hq : GoodIn lw_all (ws_ y bytes maxL ret)) (hini : Cond.initialized y.cls ∈ lw_all) (hl0 : Cond.methodLink own index y ∈ lw_all) (hsm : Cond.sameMethod y.cls y.cls y.name y.desc ∈ lw_all) (hsel : Cond.selects C y y ∈ gXW) (hin : Cond.instanceMethod y ∈ lw_all) (hd : jD y As.length) (hf : rm.frames + 1 ≤ f ∧ 8 + (maxL + 11) + rm.locals ≤ lo) (hm : rm.cells ≤ b.1 ∧ rm.slots ≤ b.2) (hc : gIs w a C) (hst : st = As.reverse ++ .ref a :: rest) (hcat : (rest.map fun v => v.category).sum ≤ 8) (d : decode cc pc = .ok (.invokevirtual index, 3)) : jRun E w b L pc st rest rm.cells rm.slots (Qc (.ref a :: As).toArray) := by
  refine ⟨hm, fun H q ls x z h1 h2 hP hS hl => ?_⟩
  subst hst
  have hcode : Cond.code y bytes maxL ret ∈ ws_ y bytes maxL ret := List.mem_cons_self
  have hselB : (Cond.selects C y y).before E.1.2.2.2.2.2.2.1 E.1.2.2.2.2.1 = true := va_tabs rfl rfl (hE.inv.2.2.2.2.1.2.2.2.2.2.2 _ hsel)
  have cu : va_CU E.1.2.2.2.1 E.1.2.2.2.2.1 E.1.2.2.2.2.2.2.1 own C y.cls index y y bytes maxL ret (ws_ y bytes maxL ret) rm rm.cells rm.slots As.length := by
    refine ⟨⟨rfl, rfl, Nat.le_trans hf.1 hR.1, Nat.le_trans hf.2 hR.2, pay_in hE.ts hq, hcode⟩, hE.ts _ (hq _ hcode).1, hE.ts _ hini, ⟨hd.1, hd.2.1⟩, fun sig h => ?_, hE.ts _ hl0, hE.ts _ hsm, ?_, hselB, hE.ts _ hin⟩
    · have h2 := hd.2.2
      rw [h] at h2
      exact (Option.some.inj h2).symm
    · exact va_Decl.of (hE.ts _ hin) (hE.ts _ (hq _ hcode).1)
  exact va_runU hE.fix hM cu ⟨gPre_blind, hc.recv hE hP hS, fun U hU hW => ⟨rfl, hE.pre hP hS hU hW⟩⟩ rfl rfl hl.1 rfl (lv_room hcat) d ⟨jbud' h1 hm.1, jbud' h2 hm.2⟩
/-- super.method() -/
theorem jr_SU (hE : jOk E cc own) (hR : jRoom E f lo) (hM : jMet E w (.ref a :: As) y bytes maxL ret rm Qc) (hq : GoodIn lw_all (va_wsSU own index y (ws_ y bytes maxL ret))) (hd : y.name ≠ "<init>" ∧ (parseMethodDescriptor y.desc).map (fun d => d.parameters.length) = some As.length) (hf : rm.frames + 1 ≤ f ∧ 8 + (maxL + 11) + rm.locals ≤ lo) (hm : rm.cells ≤ b.1 ∧ rm.slots ≤ b.2) {c : Nat} {rr : vw_C} {fs : List Value} (hw : w a = some (true, .inr (c, fs))) (hc : gCl[c]? = some rr) (hst : st = As.reverse ++ .ref a :: rest) (hcat : (rest.map fun v => v.category).sum ≤ 8) (d : decode cc pc = .ok (.invokespecial index, 3)) : jRun E w b L pc st rest rm.cells rm.slots (Qc (.ref a :: As).toArray) := by
  refine ⟨hm, fun H q ls x z h1 h2 hP hS hl => ?_⟩
  subst hst
  exact va_runSU (hE.K.1 c rr hc).2 hE.fix hM (va_cwSU As.length hE.ts hq rfl rfl rfl hd ⟨Nat.le_trans hf.1 hR.1, Nat.le_trans hf.2 hR.2⟩) ⟨gPre_blind, gIs.recv hE hP hS ⟨true, c, fs, rr, hw, hc, rfl⟩, fun U hU hW => ⟨rfl, hE.pre hP hS hU hW⟩⟩ rfl rfl hl.1 rfl (lv_room hcat) d ⟨jbud' h1 hm.1, jbud' h2 hm.2⟩
end RUNS
theorem j_objInit (hE : jOk E cc own) {f lo : Nat} (hR : jRoom E f lo) {index a : Nat} (h1q : Cond.methodLink own index objectInit ∈ lw_all) (h2q : Cond.instanceMethod objectInit ∈ lw_all) (h3q : Cond.code objectInit ⟨#[0xb1]⟩ 1 none ∈ lw_all) (hf : 1 ≤ f) (hlo : (st.map fun v => v.category).sum + 12 ≤ lo) (d : decode cc pc = .ok (.invokespecial index, 3)) (k : J E w b L (pc + 3) st) : J E w b L pc (.ref a :: st) := by
  intro H q ls x z h1 h2 hP hS hl
  exact W.objInit hE.x hE.bc hE.ow (hE.ts _ h1q) (hE.ts _ h2q) (hE.ts _ h3q) rfl (by rw [hE.ml]; exact hl.1) rfl d (Nat.le_trans hf hR.1) (by show 2 * 0 + _ + 12 ≤ _; have := hR.2; omega) (k H q ls x z h1 h2 hP hS hl)
theorem j_getC (hE : jOk E cc own) {f lo : Nat} (hR : jRoom E f lo) {index a n : Nat} {x : (Nat → Int32) ⊕ (Nat → Int64) ⊕ (Nat → UInt32) ⊕ (Nat → UInt64) ⊕ (Nat → Option Nat)} (h1q : Cond.methodLink own index ⟨"java/lang/Object", "getClass", "()Ljava/lang/Class;"⟩ ∈ lw_all) (h2q : Cond.declares ⟨"java/lang/Object", "getClass", "()Ljava/lang/Class;"⟩ ∈ lw_tbl) (h3q : Cond.selects "[Ljava/lang/Object;" ⟨"java/lang/Object", "getClass", "()Ljava/lang/Class;"⟩ ⟨"java/lang/Object", "getClass", "()Ljava/lang/Class;"⟩ ∈ lw_all) (h4q : Cond.instanceMethod ⟨"java/lang/Object", "getClass", "()Ljava/lang/Class;"⟩ ∈ lw_all) (h5q : Cond.native ⟨"java/lang/Object", "getClass", "()Ljava/lang/Class;"⟩ ∈ lw_all) (he : w a = some (true, .inl (4, n, x))) {c : Nat → Option Nat} (hc : E.2.2.1.2.2.2 = c) {r : Option Nat} (hr : r = c 15) (hf : 1 ≤ f) (hlo : (st.map fun v => v.category).sum + 14 ≤ lo) (d : decode cc pc = .ok (.invokevirtual index, 3)) (k : J E w b L (pc + 3) (va_rf r :: st)) : J E w b L pc (.ref a :: st) := by
  intro H q ls _ _ h1 h2 hP hS hl
  obtain ⟨⟨mi, e1, e2⟩, -⟩ := hE.inv.2.2.2.2.1
  rw [hc] at e1
  rw [e1] at hr
  subst hr
  obtain ⟨kA, comp, -, -, -, k4⟩ := (hE.K.2 4 _ rfl).2
  obtain ⟨hat, -⟩ := (hP a true _ he).1 rfl
  have hat : H[a]? = some (vp_cell (E.2.2.1.2.1 4) (n, x)) := hat
  refine va_getC hE.x hE.bc (by rw [hE.ml]; exact hl.1.symm) hE.ow (hE.ts _ h1q) (hE.nst h2q rfl) (hE.ts _ h3q) (hE.ts _ h4q) (hE.ts _ h5q) e2 ⟨_, hat, ?_, ?_⟩ (Nat.le_trans hf hR.1) (by have := hR.2; omega) d (k H q ls _ _ h1 h2 hP hS hl)
  · obtain f | f | f | f | f := x <;> rfl
  · have : (vp_cell (E.2.2.1.2.1 4) (n, x)).cls = E.2.2.1.2.1 4 := by obtain f | f | f | f | f := x <;> rfl
    rw [this]; exact k4
theorem j_cloneB (hE : jOk E cc own) {f lo : Nat} (hR : jRoom E f lo) {index a n : Nat} {g0 : Nat → Int32} (h1q : Cond.methodLink own index ⟨"[B", "clone", "()Ljava/lang/Object;"⟩ ∈ lw_all) (h2q : Cond.sameMethod "[B" "java/lang/Object" "clone" "()Ljava/lang/Object;" ∈ lw_all) (h3q : Cond.native ⟨"java/lang/Object", "clone", "()Ljava/lang/Object;"⟩ ∈ lw_all) (h4q : Cond.instanceMethod ⟨"java/lang/Object", "clone", "()Ljava/lang/Object;"⟩ ∈ lw_all) (h5q : Cond.selects "[B" ⟨"[B", "clone", "()Ljava/lang/Object;"⟩ ⟨"java/lang/Object", "clone", "()Ljava/lang/Object;"⟩ ∈ lw_all) (h6q : Cond.castable "[B" "java/lang/Cloneable" ∈ lw_tbl) (he : w a = some (true, .inl (1, n, .inl g0))) (hfit : ∀ i : Nat, i < n → fits .byte (.int (g0 i)) = true) (hf : 1 ≤ f) (hlo : (st.map fun v => v.category).sum + 14 ≤ lo) (hb : 1 ≤ b.1 ∧ n ≤ b.2) (d : decode cc pc = .ok (.invokevirtual index, 3)) (kk : ∀ q : Nat, w q = none → J E (gup w q (.inl (1, n, .inl g0))) (b.1 - 1, b.2 - n) L (pc + 3) (.ref q :: st)) : J E w b L pc (.ref a :: st) := by
  intro H q ls x z h1 h2 hP hS hl T hT X
  obtain ⟨hat, -⟩ := (hP a true _ he).1 rfl
  have hat : H[a]? = some (vp_cell (E.2.2.1.2.1 1) (n, .inl g0)) := hat
  have hnm : E.1.2.2.2.2.1.vm.findClass "[B" = some (E.2.2.1.2.1 1) := (hE.K.2 1 _ rfl).2
  have ha := (hE.K.2 1 _ rfl).1
  have hsz : (vp_cell (E.2.2.1.2.1 1) (n, .inl g0)).slots.size = n := arrV_size _ _ _
  obtain ⟨c0, t0', f1, f2, f3⟩ := Cond.castable_spec (hE.nst h6q rfl)
  cases hnm.symm.trans f1
  have hcellT : T.heap[a]? = some (vp_cell (E.2.2.1.2.1 1) (n, .inl g0)) := by rw [hT]; exact hat
  obtain ⟨-, kA, hkA, comp, hkind⟩ := State.isArrayOf_alike X.warmed.alike (ha 0 (fun _ => .null))
  obtain ⟨-, kS, hkS, compS, hkindS⟩ := ha 0 (fun _ => .null)
  obtain ⟨vm', X', st9⟩ := X.cloneArray hE.x hE.ow (hE.ts _ h1q) (hE.ts _ h2q) (hE.ts _ h3q) (hE.ts _ h4q) (hE.ts _ h5q) (a := a) (cell := vp_cell (E.2.2.1.2.1 1) (n, .inl g0)) hcellT (fun k h => by cases h) (fun h => by cases h) hnm f2 f3
    (fun i v hv => by
      have hk' : T.vm.classes[E.2.2.1.2.1 1]? = some kA := hkA
      have hi : i < n := by rw [← hsz]; exact (Array.getElem?_eq_some_iff.mp hv).1
      have hv2 : v = .int (g0 i) := by
        have h8 : (arrV (E.2.2.1.2.1 1) n (fun j => .int (g0 j))).slots[i]? = some (.int (g0 i)) := arrV_read _ _ hi
        exact (Option.some.inj (h8.symm.trans hv)).symm
      subst hv2
      have := hfit i hi
      show T.fitsSlot (E.2.2.1.2.1 1) .none i (.int (g0 i)) = true
      simpa [State.fitsSlot, State.slotType?, hk', hkind] using this)
    (g := F0 E.1.2.2.2.2.2.1 pc ls (.ref a :: st)) rfl (by rw [hE.ml]; exact hl.1) rfl (by rw [hE.bc]; exact d) (Nat.le_trans hf hR.1) (by show 2 * 0 + _ + 14 ≤ _; have := hR.2; omega) (jbud' h1 hb.1) (by rw [hsz]; exact jbud' h2 hb.2) (hloader := Vm.clonesLoader_of_array hkS hkindS)
  have hcellE : ({ cls := (vp_cell (E.2.2.1.2.1 1) (n, .inl g0)).cls, slots := (vp_cell (E.2.2.1.2.1 1) (n, .inl g0)).slots } : Cell) = vp_cell (E.2.2.1.2.1 1) (n, .inl g0) := rfl
  rw [hcellE, hsz] at X'
  generalize hH1 : H.push (vp_cell (E.2.2.1.2.1 1) (n, .inl g0)) = H1
  have z1 : H1.size = H.size + 1 := by rw [← hH1, Array.size_push]
  have e1 : H1[H.size]? = some (vp_cell (E.2.2.1.2.1 1) (n, .inl g0)) := by rw [← hH1, Array.getElem?_push_size]
  have o1 : ∀ q : Nat, q < H.size → H1[q]? = H[q]? := fun q hq => by rw [← hH1, Array.getElem?_push, if_neg (Nat.ne_of_lt hq)]
  have hP1 : GP E.2.2.1 E.2.2.2.1 (gup w H.size (.inl (1, n, .inl g0))) H1 := by
    intro y bb e he2
    unfold gup at he2
    by_cases hy : y = H.size
    · subst hy
      rw [if_pos rfl] at he2
      cases he2
      exact ⟨fun _ => ⟨e1, hE.A _ hS.1⟩, fun z => by cases z⟩
    · rw [if_neg hy] at he2
      exact hP.kept (by omega) o1 y bb e he2
  obtain ⟨t, b1, b2⟩ := kk H.size hP.new H1 q ls _ _ (jbud h1 hb.1) (jbud h2 hb.2) hP1 ⟨Nat.le_trans hS.1 (by omega), fun y h1 h2 => (o1 y (Nat.lt_of_lt_of_le h1 hS.1)).trans (hS.2.1 y h1 h2), hS.2.2⟩ hl (T.setVm vm' |>.pushCell (vp_cell (E.2.2.1.2.1 1) (n, .inl g0))) (by rw [← hH1, ← hT]; rfl) X'
  refine ⟨t, st9 t ?_, b2⟩
  rw [hcellE, hT]
  exact b1
end JRUN
