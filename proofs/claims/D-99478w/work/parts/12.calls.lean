/-! CONTRACTS over function worlds: their start, their ends, calls, loops -/
def gPre (G : gG) (A : Nat → Prop) (w : GW) (U : State) : Prop := (∀ q : Nat, U.heap.size ≤ q → A q) ∧ GP G A w U.heap ∧ gInv G A U U.heap
theorem gPre_blind {G : gG} {A : Nat → Prop} {w : GW} {av : List Value} : FrameBlind (va_Pc av (gPre G A w)) := by
  intro a U g mk q
  obtain ⟨q0, q1, qP, qK⟩ := q
  exact ⟨q0, q1, qP, gInv.same (u := U) (U := U.calling g mk a) rfl qK⟩
def gB (G : gG) (A : Nat → Prop) : GW → State → Prop := fun u t => GP G A u t.heap
def CtI (l : Launch) (y : MethodName) (cc : ByteArray) (nL : Nat) (ty : FieldType) (rm : Room) (G : gG) (av : List Value) (w : GW) (K : Int32 → GW → Prop) : Prop :=
  ∀ A : Nat → Prop, Met l y (ws_ y cc nL (some ty)) rm (va_Pc av (gPre G A w)) (va_Qi K (gB G A) A) rm.cells rm.slots A
def CtL (l : Launch) (y : MethodName) (cc : ByteArray) (nL : Nat) (ty : FieldType) (rm : Room) (G : gG) (av : List Value) (w : GW) (K : Int64 → GW → Prop) : Prop :=
  ∀ A : Nat → Prop, Met l y (ws_ y cc nL (some ty)) rm (va_Pc av (gPre G A w)) (va_Ql K (gB G A) A) rm.cells rm.slots A
def CtV (l : Launch) (y : MethodName) (cc : ByteArray) (nL : Nat) (rm : Room) (G : gG) (av : List Value) (w : GW) (K : GW → Prop) : Prop :=
  ∀ A : Nat → Prop, Met l y (ws_ y cc nL none) rm (va_Pc av (gPre G A w)) (va_Qv K (gB G A) A) rm.cells rm.slots A
def CtQ (l : Launch) (y : MethodName) (cc : ByteArray) (nL : Nat) (ty : FieldType) (rm : Room) (G : gG) (av : List Value) (w : GW) (K : Option Nat → GW → Prop) : Prop :=
  ∀ A : Nat → Prop, Met l y (ws_ y cc nL (some ty)) rm (va_Pc av (gPre G A w)) (va_Qq K (gB G A) A) rm.cells rm.slots A
def jRoom (E : jE) (f lo : Nat) : Prop := f ≤ E.1.2.2.2.1.frames ∧ lo ≤ E.1.2.2.2.1.locals
def jMQ (E : jE) (Qc : Array Value → State → Outcome → State → Prop) : Prop := E.2.1.2.2 = MQ E.1.2.2.2.2.2.2.2 Qc E.1.2.2.2.2.2.2.1 E.1.2.2.2.2.1 E.1.2.2.2.1.cells E.1.2.2.2.1.slots E.2.2.2.1
def jRi (E : jE) (ty : FieldType) (K : Int32 → GW → Prop) : Prop := E.2.1.1.sig.returnType = some ty ∧ jMQ E (va_Qi K (gB E.2.2.1 E.2.2.2.1) E.2.2.2.1)
def jRl (E : jE) (ty : FieldType) (K : Int64 → GW → Prop) : Prop := E.2.1.1.sig.returnType = some ty ∧ jMQ E (va_Ql K (gB E.2.2.1 E.2.2.2.1) E.2.2.2.1)
def jRv (E : jE) (K : GW → Prop) : Prop := E.2.1.1.sig.returnType = none ∧ jMQ E (va_Qv K (gB E.2.2.1 E.2.2.2.1) E.2.2.2.1)
def jRq (E : jE) (ty : FieldType) (K : Option Nat → GW → Prop) : Prop := E.2.1.1.sig.returnType = some ty ∧ jMQ E (va_Qq K (gB E.2.2.1 E.2.2.2.1) E.2.2.2.1)
/-- one body for the four -/
theorem ct_body {l : Launch} {y : MethodName} {cc : ByteArray} {nL : Nat} {ret : Option FieldType} {rm : Room} {G : gG} {av : List Value} {w : GW} {A : Nat → Prop} {Qc : Array Value → State → Outcome → State → Prop} {own : String} (hy : plainName y.cls = true) (hown : y.cls = own) (hlen : (lg_sl av).length ≤ nL)
    (body : ∀ E : jE, jOk E cc own → E.1.2.1 = l → E.2.2.1 = G → E.2.2.2.2 = nL → E.2.2.2.1 = A → jRoom E rm.frames rm.locals → E.2.1.1.sig.returnType = ret → jMQ E Qc → J E w (rm.cells, rm.slots) (lv_args 0 av) 0 []) :
    Met l y (ws_ y cc nL ret) rm (va_Pc av (gPre G A w)) Qc rm.cells rm.slots A := by
  refine Met.ofW (cc := cc) (maxL := nL) (ret := ret) hy rfl ?_
  intro p e s m args below meth c s₁ B hml hv
  obtain ⟨rfl, hA, hP, hK⟩ := hv
  have hts := atoms_spec (ws := ws_ y cc nL ret) B.pre
  have hts : ∀ w ∈ lw_all, w.before _ s = true := fun w h => hts w (List.mem_cons_of_mem _ h)
  have ho : s.vm.findClass own = some m.cls := by rw [← hown]; exact findClass_of_methodNamed B.named
  have hb := body ((p, l, e, (headSpec (ws_ y cc nL ret) rm).room, s, m, av.toArray, below), (meth, c, MQ below Qc av.toArray s rm.cells rm.slots A), (G, A, nL)) ⟨B.exec, B.bytes, hml, ho, hts, hA, hK, B.notSynchronized⟩ rfl rfl rfl rfl ⟨Nat.le_refl _, Nat.le_refl _⟩ B.returns rfl
  rw [lg_entry_eq]
  exact hb s.heap [] _ 0 0 (by show 0 + rm.cells ≤ rm.cells; omega) (by show 0 + rm.slots ≤ rm.slots; omega) hP va_S.rf (lv_entry av hlen)
theorem CtI.of {l : Launch} {y : MethodName} {cc : ByteArray} {nL : Nat} {ty : FieldType} {rm : Room} {G : gG} {av : List Value} {w : GW} {K : Int32 → GW → Prop} (own : String) (hy : plainName y.cls = true) (hown : y.cls = own) (hlen : (lg_sl av).length ≤ nL)
    (body : ∀ E : jE, jOk E cc own → E.1.2.1 = l → E.2.2.1 = G → E.2.2.2.2 = nL → jRoom E rm.frames rm.locals → jRi E ty K → J E w (rm.cells, rm.slots) (lv_args 0 av) 0 []) : CtI l y cc nL ty rm G av w K := by
  intro A
  refine ct_body hy hown hlen (fun E h1 h2 h3 h4 h5 h6 h7 h8 => body E h1 h2 h3 h4 h6 ⟨h7, ?_⟩)
  rw [h3, h5]; exact h8
theorem CtL.of {l : Launch} {y : MethodName} {cc : ByteArray} {nL : Nat} {ty : FieldType} {rm : Room} {G : gG} {av : List Value} {w : GW} {K : Int64 → GW → Prop} (own : String) (hy : plainName y.cls = true) (hown : y.cls = own) (hlen : (lg_sl av).length ≤ nL)
    (body : ∀ E : jE, jOk E cc own → E.1.2.1 = l → E.2.2.1 = G → E.2.2.2.2 = nL → jRoom E rm.frames rm.locals → jRl E ty K → J E w (rm.cells, rm.slots) (lv_args 0 av) 0 []) : CtL l y cc nL ty rm G av w K := by
  intro A
  refine ct_body hy hown hlen (fun E h1 h2 h3 h4 h5 h6 h7 h8 => body E h1 h2 h3 h4 h6 ⟨h7, ?_⟩)
  rw [h3, h5]; exact h8
theorem CtV.of {l : Launch} {y : MethodName} {cc : ByteArray} {nL : Nat} {rm : Room} {G : gG} {av : List Value} {w : GW} {K : GW → Prop} (own : String) (hy : plainName y.cls = true) (hown : y.cls = own) (hlen : (lg_sl av).length ≤ nL)
    (body : ∀ E : jE, jOk E cc own → E.1.2.1 = l → E.2.2.1 = G → E.2.2.2.2 = nL → jRoom E rm.frames rm.locals → jRv E K → J E w (rm.cells, rm.slots) (lv_args 0 av) 0 []) : CtV l y cc nL rm G av w K := by
  intro A
  refine ct_body hy hown hlen (fun E h1 h2 h3 h4 h5 h6 h7 h8 => body E h1 h2 h3 h4 h6 ⟨h7, ?_⟩)
  rw [h3, h5]; exact h8
theorem ct_bodyI {l : Launch} {y : MethodName} {cc : ByteArray} {nL : Nat} {ret : Option FieldType} {rm : Room} {G : gG} {av : List Value} {w : GW} {A : Nat → Prop} {Qc : Array Value → State → Outcome → State → Prop} {own : String} (hy : plainName y.cls = true) (hown : y.cls = own) (hlen : (lg_sl av).length ≤ nL)
    (body : ∀ E : jE, jOk E cc own → E.2.1.1.name = y.name → E.1.2.1 = l → E.2.2.1 = G → E.2.2.2.2 = nL → E.2.2.2.1 = A → jRoom E rm.frames rm.locals → E.2.1.1.sig.returnType = ret → jMQ E Qc → J E w (rm.cells, rm.slots) (lv_args 0 av) 0 []) :
    Met l y (ws_ y cc nL ret) rm (va_Pc av (gPre G A w)) Qc rm.cells rm.slots A := by
  refine Met.ofW (cc := cc) (maxL := nL) (ret := ret) hy rfl ?_
  intro p e s m args below meth c s₁ B hml hv
  obtain ⟨rfl, hA, hP, hK⟩ := hv
  have hts := atoms_spec (ws := ws_ y cc nL ret) B.pre
  have hts : ∀ w ∈ lw_all, w.before _ s = true := fun w h => hts w (List.mem_cons_of_mem _ h)
  have ho : s.vm.findClass own = some m.cls := by rw [← hown]; exact findClass_of_methodNamed B.named
  have hb := body ((p, l, e, (headSpec (ws_ y cc nL ret) rm).room, s, m, av.toArray, below), (meth, c, MQ below Qc av.toArray s rm.cells rm.slots A), (G, A, nL)) ⟨B.exec, B.bytes, hml, ho, hts, hA, hK, B.notSynchronized⟩ (name_of_methodNamed B.named B.method).1 rfl rfl rfl rfl ⟨Nat.le_refl _, Nat.le_refl _⟩ B.returns rfl
  rw [lg_entry_eq]
  exact hb s.heap [] _ 0 0 (by show 0 + rm.cells ≤ rm.cells; omega) (by show 0 + rm.slots ≤ rm.slots; omega) hP va_S.rf (lv_entry av hlen)
theorem CtV.ofI {l : Launch} {y : MethodName} {cc : ByteArray} {nL : Nat} {rm : Room} {G : gG} {av : List Value} {w : GW} {K : GW → Prop} (own : String) (hy : plainName y.cls = true) (hown : y.cls = own) (hni : y.name = "<init>") (hlen : (lg_sl av).length ≤ nL)
    (body : ∀ E : jE, jOk E cc own → E.2.1.1.name = "<init>" → E.1.2.1 = l → E.2.2.1 = G → E.2.2.2.2 = nL → jRoom E rm.frames rm.locals → jRv E K → J E w (rm.cells, rm.slots) (lv_args 0 av) 0 []) : CtV l y cc nL rm G av w K := by
  intro A
  refine ct_bodyI hy hown hlen (fun E h1 h0 h2 h3 h4 h5 h6 h7 h8 => body E h1 (h0.trans hni) h2 h3 h4 h6 ⟨h7, ?_⟩)
  rw [h3, h5]; exact h8
theorem CtQ.of {l : Launch} {y : MethodName} {cc : ByteArray} {nL : Nat} {ty : FieldType} {rm : Room} {G : gG} {av : List Value} {w : GW} {K : Option Nat → GW → Prop} (own : String) (hy : plainName y.cls = true) (hown : y.cls = own) (hlen : (lg_sl av).length ≤ nL)
    (body : ∀ E : jE, jOk E cc own → E.1.2.1 = l → E.2.2.1 = G → E.2.2.2.2 = nL → jRoom E rm.frames rm.locals → jRq E ty K → J E w (rm.cells, rm.slots) (lv_args 0 av) 0 []) : CtQ l y cc nL ty rm G av w K := by
  intro A
  refine ct_body hy hown hlen (fun E h1 h2 h3 h4 h5 h6 h7 h8 => body E h1 h2 h3 h4 h6 ⟨h7, ?_⟩)
  rw [h3, h5]; exact h8
section JRET
variable {E : jE} {cc : ByteArray} {own : String} {w : GW} {b : Nat × Nat} {L L' : List (Nat × Value)} {pc pc' : Nat} {st : List Value}
theorem j_iret (hE : jOk E cc own) {ty : FieldType} {K : Int32 → GW → Prop} (hR : jRi E ty K) {v : Int32} (d : decode cc pc = .ok (.ireturn, 1)) (hn : narrow ty (.int v) = .int v) (hk : K v w) : J E w b L pc [.int v] := by
  intro H q ls x y h1 h2 hP hS hl
  rw [hR.2]
  refine W.widen (k := E.1.2.2.2.1.cells) (n := E.1.2.2.2.1.slots) (by omega) (by omega) ?_
  exact W.zret hE.x hE.bc hR.1 hn (fun t ht hW => ⟨⟨v, w, rfl, hk, by show GP _ _ _ t.heap; rw [ht]; exact hP⟩, hS.F ht⟩) hS.2.2 d hE.nl
theorem j_lret (hE : jOk E cc own) {K : Int64 → GW → Prop} (hR : jRl E .long K) {v : Int64} (d : decode cc pc = .ok (.lreturn, 1)) (hk : K v w) : J E w b L pc [.long v] := by
  intro H q ls x y h1 h2 hP hS hl
  rw [hR.2]
  refine W.widen (k := E.1.2.2.2.1.cells) (n := E.1.2.2.2.1.slots) (by omega) (by omega) ?_
  exact W.lret hE.x hE.bc hR.1 (fun t ht hW => ⟨⟨v, w, rfl, hk, by show GP _ _ _ t.heap; rw [ht]; exact hP⟩, hS.F ht⟩) hS.2.2 d hE.nl
theorem j_vret (hE : jOk E cc own) {K : GW → Prop} (hR : jRv E K) (d : decode cc pc = .ok (.return_, 1)) (hk : K w) : J E w b L pc [] := by
  intro H q ls x y h1 h2 hP hS hl
  rw [hR.2]
  refine W.widen (k := E.1.2.2.2.1.cells) (n := E.1.2.2.2.1.slots) (by omega) (by omega) ?_
  exact W.vret hE.x hE.bc hR.1 (fun t ht hW => ⟨⟨w, rfl, hk, by show GP _ _ _ t.heap; rw [ht]; exact hP⟩, hS.F ht⟩) hS.2.2 d hE.nl
theorem j_qret (hE : jOk E cc own) {ty : FieldType} {K : Option Nat → GW → Prop} (hR : jRq E ty K) {r : Option Nat} (d : decode cc pc = .ok (.areturn, 1)) (hrt : (∃ n, ty = .object n) ∨ ∃ t, ty = .array t) (hk : K r w) : J E w b L pc [va_rf r] := by
  intro H q ls x y h1 h2 hP hS hl
  rw [hR.2]
  refine W.widen (k := E.1.2.2.2.1.cells) (n := E.1.2.2.2.1.slots) (by omega) (by omega) ?_
  exact W.aret (v := va_rf r) hE.x hE.bc hR.1 hrt (by cases r with | none => exact Or.inl rfl | some a => exact Or.inr ⟨a, rfl⟩) (fun t ht hW => ⟨⟨r, w, rfl, hk, by show GP _ _ _ t.heap; rw [ht]; exact hP⟩, hS.F ht⟩) hS.2.2 d hE.nl
theorem jOk.fix (h : jOk E cc own) : CallFix E.1.1 E.1.2.2.2.2.2.1 E.2.1.2.1 cc E.2.2.2.2 E.1.2.2.2.2.1 E.1.2.2.2.2.2.2.1 lw_all own := ⟨h.x, h.bc, h.ml, h.ow, h.ts⟩
theorem jOk.pre (h : jOk E cc own) {H : Heap} {locs : List Loc} (hP : GP E.2.2.1 E.2.2.2.1 w H) (hS : va_S E.2.2.2.1 E.1.2.2.2.2.1.heap H locs) {U : State} (hU : U.heap = H) (hW : E.1.2.2.2.2.1.WarmedH U.vm) : gPre E.2.2.1 E.2.2.2.1 w U := by
  refine ⟨fun q hq => h.A q (Nat.le_trans hS.1 (by rw [← hU]; exact hq)), by rw [hU]; exact hP, ?_⟩
  rw [hU]
  exact (h.inv.warm hW).kept hS.2.1
/-- the receiver's class -/
def gIs (w : GW) (a : Nat) (C : String) : Prop := ∃ (b : Bool) (ci : Nat) (fs : List Value) (r : vw_C), w a = some (b, .inr (ci, fs)) ∧ gCl[ci]? = some r ∧ r.1 = C
theorem gIs.recv (h : jOk E cc own) {H : Heap} {locs : List Loc} {a : Nat} {C : String} (hP : GP E.2.2.1 E.2.2.2.1 w H) (hS : va_S E.2.2.2.1 E.1.2.2.2.2.1.heap H locs) (hc : gIs w a C) : ∃ cell : Cell, H[a]? = some cell ∧ cell.vm.isStatics = false ∧ E.1.2.2.2.2.1.vm.findClass C = some cell.cls := by
  obtain ⟨b, ci, fs, r, h1, h2, rfl⟩ := hc
  cases b with
  | true => exact va_recv h.K (hP.one h1) (q0 := 0) h2 rfl
  | false =>
    obtain ⟨r', g1, g2, -⟩ := h.inv.2.2.2.2.2 a _ ((hP a _ _ h1).2 rfl).2
    have e : r' = r := Option.some.inj (g1.symm.trans h2)
    subst e
    obtain ⟨cell, k1, k2, k3, -⟩ := g2.kept hS.2.1
    exact ⟨cell, k1, k2, k3⟩
theorem jbud {k b1 mc R : Nat} (h : k + b1 ≤ R) (hm : mc ≤ b1) : (k + mc) + (b1 - mc) ≤ R := by omega
theorem jbud' {k b1 mc R : Nat} (h : k + b1 ≤ R) (hm : mc ≤ b1) : k + mc ≤ R := by omega
abbrev jD (y : MethodName) (n : Nat) : Prop := y.cls ≠ "java/lang/invoke/MethodHandle" ∧ y.cls ≠ "java/lang/invoke/VarHandle" ∧ (parseMethodDescriptor y.desc).map (fun d => d.parameters.length) = some n
theorem j_cvI (hE : jOk E cc own) {f lo : Nat} (hR : jRoom E f lo) {y : MethodName} {bytes : ByteArray} {maxL index a : Nat} {ty : FieldType} {rm : Room} {As rest : List Value} {K : Int32 → GW → Prop} (hM : CtI E.1.2.1 y bytes maxL ty rm E.2.2.1 (.ref a :: As) w K)
    (hq : GoodIn lw_all (wsV own index y.cls y (ws_ y bytes maxL (some ty)))) (hd : jD y As.length) (hf : rm.frames + 1 ≤ f ∧ 8 + (maxL + 11) + rm.locals ≤ lo) (hm : rm.cells ≤ b.1 ∧ rm.slots ≤ b.2) (hc : gIs w a y.cls) (hst : st = As.reverse ++ .ref a :: rest) (hcat : (rest.map fun v => v.category).sum ≤ 8) (d : decode cc pc = .ok (.invokevirtual index, 3))
    (k : ∀ (r : Int32) (u : GW), K r u → J E u (b.1 - rm.cells, b.2 - rm.slots) L (pc + 3) (.int r :: rest)) : J E w b L pc st := by
  intro H q ls x z h1 h2 hP hS hl
  subst hst
  refine va_calli (va_runV hE.fix (hM E.2.2.2.1) (cwV As.length hE.ts hq rfl rfl rfl ⟨rfl, hd⟩ ⟨Nat.le_trans hf.1 hR.1, Nat.le_trans hf.2 hR.2⟩) ⟨gPre_blind, hc.recv hE hP hS, fun U hU hW => ⟨rfl, hE.pre hP hS hU hW⟩⟩ rfl rfl hl.1 rfl (lv_room hcat) d ⟨jbud' h1 hm.1, jbud' h2 hm.2⟩) hS (fun q _ h => h) (fun _ h => h) (fun r u t H1 locs1 ht hvm hp hB hz hk hS1 => ?_)
  exact k r u hp H1 locs1 ls _ _ (jbud h1 hm.1) (jbud h2 hm.2) (by rw [← ht]; exact hB) hS1 hl
theorem j_cvL (hE : jOk E cc own) {f lo : Nat} (hR : jRoom E f lo) {y : MethodName} {bytes : ByteArray} {maxL index a : Nat} {ty : FieldType} {rm : Room} {As rest : List Value} {K : Int64 → GW → Prop} (hM : CtL E.1.2.1 y bytes maxL ty rm E.2.2.1 (.ref a :: As) w K)
    (hq : GoodIn lw_all (wsV own index y.cls y (ws_ y bytes maxL (some ty)))) (hd : jD y As.length) (hf : rm.frames + 1 ≤ f ∧ 8 + (maxL + 11) + rm.locals ≤ lo) (hm : rm.cells ≤ b.1 ∧ rm.slots ≤ b.2) (hc : gIs w a y.cls) (hst : st = As.reverse ++ .ref a :: rest) (hcat : (rest.map fun v => v.category).sum ≤ 8) (d : decode cc pc = .ok (.invokevirtual index, 3))
    (k : ∀ (r : Int64) (u : GW), K r u → J E u (b.1 - rm.cells, b.2 - rm.slots) L (pc + 3) (.long r :: rest)) : J E w b L pc st := by
  intro H q ls x z h1 h2 hP hS hl
  subst hst
  refine va_calll (va_runV hE.fix (hM E.2.2.2.1) (cwV As.length hE.ts hq rfl rfl rfl ⟨rfl, hd⟩ ⟨Nat.le_trans hf.1 hR.1, Nat.le_trans hf.2 hR.2⟩) ⟨gPre_blind, hc.recv hE hP hS, fun U hU hW => ⟨rfl, hE.pre hP hS hU hW⟩⟩ rfl rfl hl.1 rfl (lv_room hcat) d ⟨jbud' h1 hm.1, jbud' h2 hm.2⟩) hS (fun q _ h => h) (fun _ h => h) (fun r u t H1 locs1 ht hvm hp hB hz hk hS1 => ?_)
  exact k r u hp H1 locs1 ls _ _ (jbud h1 hm.1) (jbud h2 hm.2) (by rw [← ht]; exact hB) hS1 hl
theorem j_cvV (hE : jOk E cc own) {f lo : Nat} (hR : jRoom E f lo) {y : MethodName} {bytes : ByteArray} {maxL index a : Nat} {rm : Room} {As rest : List Value} {K : GW → Prop} (hM : CtV E.1.2.1 y bytes maxL rm E.2.2.1 (.ref a :: As) w K)
    (hq : GoodIn lw_all (wsV own index y.cls y (ws_ y bytes maxL none))) (hd : jD y As.length) (hf : rm.frames + 1 ≤ f ∧ 8 + (maxL + 11) + rm.locals ≤ lo) (hm : rm.cells ≤ b.1 ∧ rm.slots ≤ b.2) (hc : gIs w a y.cls) (hst : st = As.reverse ++ .ref a :: rest) (hcat : (rest.map fun v => v.category).sum ≤ 8) (d : decode cc pc = .ok (.invokevirtual index, 3))
    (k : ∀ (u : GW), K u → J E u (b.1 - rm.cells, b.2 - rm.slots) L (pc + 3) rest) : J E w b L pc st := by
  intro H q ls x z h1 h2 hP hS hl
  subst hst
  refine va_callv (va_runV hE.fix (hM E.2.2.2.1) (cwV As.length hE.ts hq rfl rfl rfl ⟨rfl, hd⟩ ⟨Nat.le_trans hf.1 hR.1, Nat.le_trans hf.2 hR.2⟩) ⟨gPre_blind, hc.recv hE hP hS, fun U hU hW => ⟨rfl, hE.pre hP hS hU hW⟩⟩ rfl rfl hl.1 rfl (lv_room hcat) d ⟨jbud' h1 hm.1, jbud' h2 hm.2⟩) hS (fun q _ h => h) (fun _ h => h) (fun u t H1 locs1 ht hvm hp hB hz hk hS1 => ?_)
  exact k u hp H1 locs1 ls _ _ (jbud h1 hm.1) (jbud h2 hm.2) (by rw [← ht]; exact hB) hS1 hl
theorem j_cvQ (hE : jOk E cc own) {f lo : Nat} (hR : jRoom E f lo) {y : MethodName} {bytes : ByteArray} {maxL index a : Nat} {ty : FieldType} {rm : Room} {As rest : List Value} {K : Option Nat → GW → Prop} (hM : CtQ E.1.2.1 y bytes maxL ty rm E.2.2.1 (.ref a :: As) w K)
    (hq : GoodIn lw_all (wsV own index y.cls y (ws_ y bytes maxL (some ty)))) (hd : jD y As.length) (hf : rm.frames + 1 ≤ f ∧ 8 + (maxL + 11) + rm.locals ≤ lo) (hm : rm.cells ≤ b.1 ∧ rm.slots ≤ b.2) (hc : gIs w a y.cls) (hst : st = As.reverse ++ .ref a :: rest) (hcat : (rest.map fun v => v.category).sum ≤ 8) (d : decode cc pc = .ok (.invokevirtual index, 3))
    (k : ∀ (r : Option Nat) (u : GW), K r u → J E u (b.1 - rm.cells, b.2 - rm.slots) L (pc + 3) (va_rf r :: rest)) : J E w b L pc st := by
  intro H q ls x z h1 h2 hP hS hl
  subst hst
  refine va_callq (va_runV hE.fix (hM E.2.2.2.1) (cwV As.length hE.ts hq rfl rfl rfl ⟨rfl, hd⟩ ⟨Nat.le_trans hf.1 hR.1, Nat.le_trans hf.2 hR.2⟩) ⟨gPre_blind, hc.recv hE hP hS, fun U hU hW => ⟨rfl, hE.pre hP hS hU hW⟩⟩ rfl rfl hl.1 rfl (lv_room hcat) d ⟨jbud' h1 hm.1, jbud' h2 hm.2⟩) hS (fun q _ h => h) (fun _ h => h) (fun r u t H1 locs1 ht hvm hp hB hz hk hS1 => ?_)
  exact k r u hp H1 locs1 ls _ _ (jbud h1 hm.1) (jbud h2 hm.2) (by rw [← ht]; exact hB) hS1 hl
theorem j_csI (hE : jOk E cc own) {f lo : Nat} (hR : jRoom E f lo) {y : MethodName} {bytes : ByteArray} {maxL index : Nat} {ty : FieldType} {rm : Room} {As rest : List Value} {K : Int32 → GW → Prop} (hM : CtI E.1.2.1 y bytes maxL ty rm E.2.2.1 As w K)
    (hq : GoodIn lw_all (va_wsS own index y (ws_ y bytes maxL (some ty)))) (hd : jD y As.length) (hf : rm.frames + 1 ≤ f ∧ 8 + (maxL + 11) + rm.locals ≤ lo) (hm : rm.cells ≤ b.1 ∧ rm.slots ≤ b.2) (hst : st = As.reverse ++ rest) (hcat : (rest.map fun v => v.category).sum ≤ 8) (d : decode cc pc = .ok (.invokestatic index, 3))
    (k : ∀ (r : Int32) (u : GW), K r u → J E u (b.1 - rm.cells, b.2 - rm.slots) L (pc + 3) (.int r :: rest)) : J E w b L pc st := by
  intro H q ls x z h1 h2 hP hS hl
  subst hst
  refine va_calli (va_runS hE.fix (hM E.2.2.2.1) (va_cwS As.length hE.ts hq rfl rfl rfl hd ⟨Nat.le_trans hf.1 hR.1, Nat.le_trans hf.2 hR.2⟩) ⟨gPre_blind, fun U hU hW => ⟨rfl, hE.pre hP hS hU hW⟩⟩ rfl rfl hl.1 rfl (lv_room hcat) d ⟨jbud' h1 hm.1, jbud' h2 hm.2⟩) hS (fun q _ h => h) (fun _ h => h) (fun r u t H1 locs1 ht hvm hp hB hz hk hS1 => ?_)
  exact k r u hp H1 locs1 ls _ _ (jbud h1 hm.1) (jbud h2 hm.2) (by rw [← ht]; exact hB) hS1 hl
theorem j_csV (hE : jOk E cc own) {f lo : Nat} (hR : jRoom E f lo) {y : MethodName} {bytes : ByteArray} {maxL index : Nat} {rm : Room} {As rest : List Value} {K : GW → Prop} (hM : CtV E.1.2.1 y bytes maxL rm E.2.2.1 As w K)
    (hq : GoodIn lw_all (va_wsS own index y (ws_ y bytes maxL none))) (hd : jD y As.length) (hf : rm.frames + 1 ≤ f ∧ 8 + (maxL + 11) + rm.locals ≤ lo) (hm : rm.cells ≤ b.1 ∧ rm.slots ≤ b.2) (hst : st = As.reverse ++ rest) (hcat : (rest.map fun v => v.category).sum ≤ 8) (d : decode cc pc = .ok (.invokestatic index, 3))
    (k : ∀ (u : GW), K u → J E u (b.1 - rm.cells, b.2 - rm.slots) L (pc + 3) rest) : J E w b L pc st := by
  intro H q ls x z h1 h2 hP hS hl
  subst hst
  refine va_callv (va_runS hE.fix (hM E.2.2.2.1) (va_cwS As.length hE.ts hq rfl rfl rfl hd ⟨Nat.le_trans hf.1 hR.1, Nat.le_trans hf.2 hR.2⟩) ⟨gPre_blind, fun U hU hW => ⟨rfl, hE.pre hP hS hU hW⟩⟩ rfl rfl hl.1 rfl (lv_room hcat) d ⟨jbud' h1 hm.1, jbud' h2 hm.2⟩) hS (fun q _ h => h) (fun _ h => h) (fun u t H1 locs1 ht hvm hp hB hz hk hS1 => ?_)
  exact k u hp H1 locs1 ls _ _ (jbud h1 hm.1) (jbud h2 hm.2) (by rw [← ht]; exact hB) hS1 hl
end JRET
/-- a loop: the least fixed point by a measure -/
def lfp {σ : Type} (F : (σ → Prop) → σ → Prop) (s0 : σ) : Prop := ∃ I : Nat → σ → Prop, (∃ n, I n s0) ∧ ∀ n s, I n s → F (fun s' => ∃ k, k < n ∧ I k s') s
theorem lfp_sound {σ : Type} {F : (σ → Prop) → σ → Prop} {P : σ → Prop} (h : ∀ (KL : σ → Prop) (s : σ), F KL s → (∀ s', KL s' → P s') → P s) {s0 : σ} (h0 : lfp F s0) : P s0 := by
  obtain ⟨I, ⟨n0, hI⟩, hF⟩ := h0
  have key : ∀ n s, I n s → P s := by
    intro n
    induction n using Nat.strongRecOn with
    | _ n ih => exact fun s hs => h _ s (hF n s hs) (fun s' ⟨k, hk, hs'⟩ => ih k hk s' hs')
  exact key n0 s0 hI
/-- a loop whose states are known in advance -/
theorem lfp_seq {σ : Type} {F : (σ → Prop) → σ → Prop} (st : Nat → σ) (n : Nat) {s0 : σ} (h0 : s0 = st 0) (hs : ∀ i, i < n → ∀ KL : σ → Prop, KL (st (i + 1)) → F KL (st i)) (he : ∀ KL : σ → Prop, F KL (st n)) : lfp F s0 := by
  refine ⟨fun k s => ∃ i, i ≤ n ∧ k = n - i ∧ s = st i, ⟨n, 0, Nat.zero_le _, rfl, h0⟩, ?_⟩
  rintro k s ⟨i, hi, rfl, rfl⟩
  rcases Nat.lt_or_eq_of_le hi with h | rfl
  · exact hs i h _ ⟨n - (i + 1), by omega, i + 1, h, rfl, rfl⟩
  · exact he _
/-- a loop by an invariant and a measure -/
theorem lfp_inv {σ : Type} {F : (σ → Prop) → σ → Prop} (I : σ → Prop) (μ : σ → Nat) {s0 : σ} (h0 : I s0) (hs : ∀ s, I s → ∀ KL : σ → Prop, (∀ s', I s' → μ s' < μ s → KL s') → F KL s) : lfp F s0 := by
  refine ⟨fun k s => k = μ s ∧ I s, ⟨μ s0, rfl, h0⟩, ?_⟩
  rintro k s ⟨rfl, hI⟩
  exact hs s hI _ (fun s' h1 h2 => ⟨μ s', h2, rfl, h1⟩)
