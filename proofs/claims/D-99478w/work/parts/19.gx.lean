/-! methods that may throw: K behind a return, KX behind a throw (the object thrown, the world) -/
def gXC (G : gG) (A : Nat → Prop) (KX : String → Nat → GW → Prop) : Addr → String → State → State → Prop := vy_X (S := GW) (fun _ => True) (fun q E0 u t => KX E0 q u ∧ GP G A u t.heap) A
def CtXI (l : Launch) (y : MethodName) (cc : ByteArray) (nL : Nat) (ty : FieldType) (rm : Room) (G : gG) (av : List Value) (w : GW) (K : Int32 → GW → Prop) (KX : String → Nat → GW → Prop) : Prop :=
  ∀ A : Nat → Prop, vy_Met l y (ws_ y cc nL (some ty)) rm (va_Pc av (gPre G A w)) (va_Qi K (gB G A) A) (gXC G A KX) rm.cells rm.slots A
def CtXV (l : Launch) (y : MethodName) (cc : ByteArray) (nL : Nat) (rm : Room) (G : gG) (av : List Value) (w : GW) (K : GW → Prop) (KX : String → Nat → GW → Prop) : Prop :=
  ∀ A : Nat → Prop, vy_Met l y (ws_ y cc nL none) rm (va_Pc av (gPre G A w)) (va_Qv K (gB G A) A) (gXC G A KX) rm.cells rm.slots A
def CtXQ (l : Launch) (y : MethodName) (cc : ByteArray) (nL : Nat) (ty : FieldType) (rm : Room) (G : gG) (av : List Value) (w : GW) (K : Option Nat → GW → Prop) (KX : String → Nat → GW → Prop) : Prop :=
  ∀ A : Nat → Prop, vy_Met l y (ws_ y cc nL (some ty)) rm (va_Pc av (gPre G A w)) (va_Qq K (gB G A) A) (gXC G A KX) rm.cells rm.slots A
def jXQ (E : jE) (Qc : Array Value → State → Outcome → State → Prop) (KX : String → Nat → GW → Prop) : Prop := E.2.1.2.2 = vy_MQ E.1.2.2.2.2.2.2.2 Qc (gXC E.2.2.1 E.2.2.2.1 KX) E.1.2.2.2.2.2.2.1 E.1.2.2.2.2.1 E.1.2.2.2.1.cells E.1.2.2.2.1.slots E.2.2.2.1
def jNoH (E : jE) : Prop := ∀ x ∈ E.2.1.2.1.exceptionTable.toList, False
def jXi (E : jE) (ty : FieldType) (K : Int32 → GW → Prop) (KX : String → Nat → GW → Prop) : Prop := E.2.1.1.sig.returnType = some ty ∧ jXQ E (va_Qi K (gB E.2.2.1 E.2.2.2.1) E.2.2.2.1) KX
def jXv (E : jE) (K : GW → Prop) (KX : String → Nat → GW → Prop) : Prop := E.2.1.1.sig.returnType = none ∧ jXQ E (va_Qv K (gB E.2.2.1 E.2.2.2.1) E.2.2.2.1) KX
def jXq (E : jE) (ty : FieldType) (K : Option Nat → GW → Prop) (KX : String → Nat → GW → Prop) : Prop := E.2.1.1.sig.returnType = some ty ∧ jXQ E (va_Qq K (gB E.2.2.1 E.2.2.2.1) E.2.2.2.1) KX
theorem ctX_body {l : Launch} {y : MethodName} {cc : ByteArray} {nL : Nat} {ret : Option FieldType} {rm : Room} {G : gG} {av : List Value} {w : GW} {A : Nat → Prop} {Qc : Array Value → State → Outcome → State → Prop} {KX : String → Nat → GW → Prop} {own : String} (hy : plainName y.cls = true) (hown : y.cls = own) (hlen : (lg_sl av).length ≤ nL)
    (body : ∀ E : jE, jOk E cc own → E.1.2.1 = l → E.2.2.1 = G → E.2.2.2.2 = nL → E.2.2.2.1 = A → jRoom E rm.frames rm.locals → jNoH E → E.2.1.1.sig.returnType = ret → jXQ E Qc KX → J E w (rm.cells, rm.slots) (lv_args 0 av) 0 []) :
    vy_Met l y (ws_ y cc nL ret) rm (va_Pc av (gPre G A w)) Qc (gXC G A KX) rm.cells rm.slots A := by
  refine vy_ofW (cc := cc) (maxL := nL) (ret := ret) hy rfl ?_
  intro p e s m args below meth c s₁ B hml hnh hv
  obtain ⟨rfl, hA, hP, hK⟩ := hv
  have hts := atoms_spec (ws := ws_ y cc nL ret) B.pre
  have hts : ∀ w ∈ lw_all, w.before _ s = true := fun w h => hts w (List.mem_cons_of_mem _ h)
  have ho : s.vm.findClass own = some m.cls := by rw [← hown]; exact findClass_of_methodNamed B.named
  have hb := body ((p, l, e, (headSpec (ws_ y cc nL ret) rm).room, s, m, av.toArray, below), (meth, c, vy_MQ below Qc (gXC G A KX) av.toArray s rm.cells rm.slots A), (G, A, nL)) ⟨B.exec, B.bytes, hml, ho, hts, hA, hK, B.notSynchronized⟩ rfl rfl rfl rfl ⟨Nat.le_refl _, Nat.le_refl _⟩ hnh B.returns rfl
  rw [lg_entry_eq]
  exact hb s.heap [] _ 0 0 (by show 0 + rm.cells ≤ rm.cells; omega) (by show 0 + rm.slots ≤ rm.slots; omega) hP va_S.rf (lv_entry av hlen)
theorem CtXI.of {l : Launch} {y : MethodName} {cc : ByteArray} {nL : Nat} {ty : FieldType} {rm : Room} {G : gG} {av : List Value} {w : GW} {K : Int32 → GW → Prop} {KX : String → Nat → GW → Prop} (own : String) (hy : plainName y.cls = true) (hown : y.cls = own) (hlen : (lg_sl av).length ≤ nL)
    (body : ∀ E : jE, jOk E cc own → E.1.2.1 = l → E.2.2.1 = G → E.2.2.2.2 = nL → jRoom E rm.frames rm.locals → jNoH E → jXi E ty K KX → J E w (rm.cells, rm.slots) (lv_args 0 av) 0 []) : CtXI l y cc nL ty rm G av w K KX := by
  intro A
  refine ctX_body hy hown hlen (fun E h1 h2 h3 h4 h5 h6 h6b h7 h8 => body E h1 h2 h3 h4 h6 h6b ⟨h7, ?_⟩)
  rw [h3, h5]; exact h8
theorem CtXV.of {l : Launch} {y : MethodName} {cc : ByteArray} {nL : Nat} {rm : Room} {G : gG} {av : List Value} {w : GW} {K : GW → Prop} {KX : String → Nat → GW → Prop} (own : String) (hy : plainName y.cls = true) (hown : y.cls = own) (hlen : (lg_sl av).length ≤ nL)
    (body : ∀ E : jE, jOk E cc own → E.1.2.1 = l → E.2.2.1 = G → E.2.2.2.2 = nL → jRoom E rm.frames rm.locals → jNoH E → jXv E K KX → J E w (rm.cells, rm.slots) (lv_args 0 av) 0 []) : CtXV l y cc nL rm G av w K KX := by
  intro A
  refine ctX_body hy hown hlen (fun E h1 h2 h3 h4 h5 h6 h6b h7 h8 => body E h1 h2 h3 h4 h6 h6b ⟨h7, ?_⟩)
  rw [h3, h5]; exact h8
theorem CtXQ.of {l : Launch} {y : MethodName} {cc : ByteArray} {nL : Nat} {ty : FieldType} {rm : Room} {G : gG} {av : List Value} {w : GW} {K : Option Nat → GW → Prop} {KX : String → Nat → GW → Prop} (own : String) (hy : plainName y.cls = true) (hown : y.cls = own) (hlen : (lg_sl av).length ≤ nL)
    (body : ∀ E : jE, jOk E cc own → E.1.2.1 = l → E.2.2.1 = G → E.2.2.2.2 = nL → jRoom E rm.frames rm.locals → jNoH E → jXq E ty K KX → J E w (rm.cells, rm.slots) (lv_args 0 av) 0 []) : CtXQ l y cc nL ty rm G av w K KX := by
  intro A
  refine ctX_body hy hown hlen (fun E h1 h2 h3 h4 h5 h6 h6b h7 h8 => body E h1 h2 h3 h4 h6 h6b ⟨h7, ?_⟩)
  rw [h3, h5]; exact h8
section GX
variable {E : jE} {w : GW} {b : Nat × Nat} {L L' : List (Nat × Value)} {pc pc' : Nat} {st rest : List Value} {cc : ByteArray} {own : String}
theorem jx_iret (hE : jOk E cc own) {ty : FieldType} {K : Int32 → GW → Prop} {KX : String → Nat → GW → Prop} (hR : jXi E ty K KX) {v : Int32} (d : decode cc pc = .ok (.ireturn, 1)) (hn : narrow ty (.int v) = .int v) (hk : K v w) : J E w b L pc [.int v] := by
  intro H q ls x y h1 h2 hP hS hl
  rw [hR.2]
  refine W.widen (k := E.1.2.2.2.1.cells) (n := E.1.2.2.2.1.slots) (by omega) (by omega) (vy_ret ?_)
  exact W.zret hE.x hE.bc hR.1 hn (fun t ht hW => ⟨⟨v, w, rfl, hk, by show GP _ _ _ t.heap; rw [ht]; exact hP⟩, hS.F ht⟩) hS.2.2 d hE.nl
theorem jx_vret (hE : jOk E cc own) {K : GW → Prop} {KX : String → Nat → GW → Prop} (hR : jXv E K KX) (d : decode cc pc = .ok (.return_, 1)) (hk : K w) : J E w b L pc [] := by
  intro H q ls x y h1 h2 hP hS hl
  rw [hR.2]
  refine W.widen (k := E.1.2.2.2.1.cells) (n := E.1.2.2.2.1.slots) (by omega) (by omega) (vy_ret ?_)
  exact W.vret hE.x hE.bc hR.1 (fun t ht hW => ⟨⟨w, rfl, hk, by show GP _ _ _ t.heap; rw [ht]; exact hP⟩, hS.F ht⟩) hS.2.2 d hE.nl
theorem jx_qret (hE : jOk E cc own) {ty : FieldType} {K : Option Nat → GW → Prop} {KX : String → Nat → GW → Prop} (hR : jXq E ty K KX) {r : Option Nat} (d : decode cc pc = .ok (.areturn, 1)) (hrt : (∃ n, ty = .object n) ∨ ∃ t, ty = .array t) (hk : K r w) : J E w b L pc [va_rf r] := by
  intro H q ls x y h1 h2 hP hS hl
  rw [hR.2]
  refine W.widen (k := E.1.2.2.2.1.cells) (n := E.1.2.2.2.1.slots) (by omega) (by omega) (vy_ret ?_)
  exact W.aret (v := va_rf r) hE.x hE.bc hR.1 hrt (by cases r with | none => exact Or.inl rfl | some a => exact Or.inr ⟨a, rfl⟩) (fun t ht hW => ⟨⟨r, w, rfl, hk, by show GP _ _ _ t.heap; rw [ht]; exact hP⟩, hS.F ht⟩) hS.2.2 d hE.nl
/-- the machine stands at a throw of q -/
def JX (E : jE) (w : GW) (b : Nat × Nat) (L : List (Nat × Value)) (pc q : Nat) (E0 : String) : Prop :=
  ∀ (H : Heap) (locs : List Loc) (ls : Array Slot) (k n : Nat) (rest : List Value) (ce : Cell), k + b.1 ≤ E.1.2.2.2.1.cells → n + b.2 ≤ E.1.2.2.2.1.slots → GP E.2.2.1 E.2.2.2.1 w H → va_S E.2.2.2.1 E.1.2.2.2.2.1.heap H locs → lv_has ls E.2.2.2.2 L → H[q]? = some ce → ce.vm = .none → E.1.2.2.2.2.1.vm.findClass E0 = some ce.cls →
    vy_W E.1.1 E.1.2.1 E.1.2.2.1 E.1.2.2.2.1 E.1.2.2.2.2.1 E.1.2.2.2.2.2.1 E.1.2.2.2.2.2.2.1 E.1.2.2.2.2.2.2.2 E.2.1.1 E.2.1.2.1 H locs k n E.2.1.2.2 (F0 E.1.2.2.2.2.2.1 pc ls rest) q
theorem jx_out (hE : jOk E cc own) {Qc : Array Value → State → Outcome → State → Prop} {KX : String → Nat → GW → Prop} (hX : jXQ E Qc KX) (hN : jNoH E) {q : Nat} {E0 : String} (hk : KX E0 q w) : JX E w b L pc q E0 := by
  intro H locs ls k n rest ce h1 h2 hP hS hl hc hv hcl
  rw [hX]
  exact vy_out (fun x hx => (hN x hx).elim) hE.nl hc hv hcl (fun t ht hA => ⟨w, trivial, ⟨hk, by rw [ht]; exact hP⟩, hS.F ht⟩) hS.2.2 (by omega) (by omega)
theorem jx_throw (hE : jOk E cc own) {q c : Nat} {fs : List Value} (he : w q = some (true, .inr (c, fs))) {rr : vw_C} (hc : gCl[c]? = some rr) (d : decode cc pc = .ok (.athrow, 1)) (k : JX E w b L pc q rr.1) : J E w b L pc (.ref q :: st) := by
  intro H locs ls x y h1 h2 hP hS hl
  obtain ⟨hat, -⟩ := (hP q true _ he).1 rfl
  obtain ⟨r', hr', cellV, g1, g2, g3, -⟩ := hat
  have e : r' = rr := Option.some.inj (hr'.symm.trans hc)
  subst e
  refine vy_athrow hE.x hE.bc d (k H locs ls x y st cellV h1 h2 hP hS hl g1 g3 ?_)
  rw [g2]; exact (hE.K.1 c r' hr').2.1
/-- the one handler of a method takes it -/
theorem jx_catch (hE : jOk E cc own) {a1 a2 a3 a4 : Nat} (ht : E.2.1.2.1.exceptionTable.toList = tableOf [(a1, a2, a3, a4)]) {nm : String} (hq : Cond.classLink own a4 nm ∈ lw_all) (h4 : a4 ≠ 0) (hcov : a1 ≤ pc ∧ pc < a2) {q : Nat} {E0 : String} (hcast : Cond.castable E0 nm ∈ lw_tbl) (k : J E w b L a3 [.ref q]) : JX E w b L pc q E0 := by
  intro H locs ls x y rest ce h1 h2 hP hS hl hce hv hcl
  refine vy_catch hE.ow [] ⟨a1, a2, a3, a4⟩ [] (by rw [ht]; rfl) (fun z hz => nomatch hz) ?_ h4 (hE.ts _ hq) (hE.nst hcast rfl) hce hv hcl (k H locs ls x y h1 h2 hP hS hl)
  simp [covers, hcov.1, hcov.2]
def jRunX (E : jE) (w : GW) (b : Nat × Nat) (L : List (Nat × Value)) (pc : Nat) (st rest : List Value) (mc ms : Nat) (Qa : State → Outcome → State → Prop) (KX : String → Nat → GW → Prop) : Prop :=
  (mc ≤ b.1 ∧ ms ≤ b.2) ∧ ∀ (H : Heap) (locs : List Loc) (ls : Array Slot) (k n : Nat), k + b.1 ≤ E.1.2.2.2.1.cells → n + b.2 ≤ E.1.2.2.2.1.slots → GP E.2.2.1 E.2.2.2.1 w H → va_S E.2.2.2.1 E.1.2.2.2.2.1.heap H locs → lv_has ls E.2.2.2.2 L →
    vy_Run E.1.1 E.1.2.1 E.1.2.2.1 E.1.2.2.2.1 E.1.2.2.2.2.1 E.1.2.2.2.2.2.1 E.1.2.2.2.2.2.2.1 E.1.2.2.2.2.2.2.2 E.2.1.1 E.2.1.2.1 H locs k n mc ms (F0 E.1.2.2.2.2.2.1 pc ls st) rest Qa (gXC E.2.2.1 E.2.2.2.1 KX) E.2.2.2.1
theorem jcx_i {mc ms : Nat} {av : Array Value} {K : Int32 → GW → Prop} {KX : String → Nat → GW → Prop} (hr : jRunX E w b L pc st rest mc ms (va_Qi K (gB E.2.2.1 E.2.2.2.1) E.2.2.2.1 av) KX) (kx : ∀ (E0 : String) (q : Nat) (u : GW), KX E0 q u → JX E u (b.1 - mc, b.2 - ms) L pc q E0) (k : ∀ (r : Int32) (u : GW), K r u → J E u (b.1 - mc, b.2 - ms) L (pc + 3) (.int r :: rest)) : J E w b L pc st := by
  intro H q ls x z h1 h2 hP hS hl
  refine vy_calli (hr.2 H q ls x z h1 h2 hP hS hl) hS (fun q _ h => h) (fun _ h => h) (fun q _ h => h) (fun E0 ce q9 u t H1 locs1 ht hvm hp hB hz hk hS1 g1 g2 g3 => ?_) (fun r u t H1 locs1 ht hvm hp hB hz hk hS1 => ?_)
  · exact kx E0 q9 u hB.1 H1 locs1 ls _ _ rest ce (jbud h1 hr.1.1) (jbud h2 hr.1.2) (by rw [← ht]; exact hB.2) hS1 hl g1 g2 g3
  · exact k r u hp H1 locs1 ls _ _ (jbud h1 hr.1.1) (jbud h2 hr.1.2) (by rw [← ht]; exact hB) hS1 hl
theorem jcx_v {mc ms : Nat} {av : Array Value} {K : GW → Prop} {KX : String → Nat → GW → Prop} (hr : jRunX E w b L pc st rest mc ms (va_Qv K (gB E.2.2.1 E.2.2.2.1) E.2.2.2.1 av) KX) (kx : ∀ (E0 : String) (q : Nat) (u : GW), KX E0 q u → JX E u (b.1 - mc, b.2 - ms) L pc q E0) (k : ∀ (u : GW), K u → J E u (b.1 - mc, b.2 - ms) L (pc + 3) rest) : J E w b L pc st := by
  intro H q ls x z h1 h2 hP hS hl
  refine vy_callv (hr.2 H q ls x z h1 h2 hP hS hl) hS (fun q _ h => h) (fun _ h => h) (fun q _ h => h) (fun E0 ce q9 u t H1 locs1 ht hvm hp hB hz hk hS1 g1 g2 g3 => ?_) (fun u t H1 locs1 ht hvm hp hB hz hk hS1 => ?_)
  · exact kx E0 q9 u hB.1 H1 locs1 ls _ _ rest ce (jbud h1 hr.1.1) (jbud h2 hr.1.2) (by rw [← ht]; exact hB.2) hS1 hl g1 g2 g3
  · exact k u hp H1 locs1 ls _ _ (jbud h1 hr.1.1) (jbud h2 hr.1.2) (by rw [← ht]; exact hB) hS1 hl
theorem jcx_q {mc ms : Nat} {av : Array Value} {K : Option Nat → GW → Prop} {KX : String → Nat → GW → Prop} (hr : jRunX E w b L pc st rest mc ms (va_Qq K (gB E.2.2.1 E.2.2.2.1) E.2.2.2.1 av) KX) (kx : ∀ (E0 : String) (q : Nat) (u : GW), KX E0 q u → JX E u (b.1 - mc, b.2 - ms) L pc q E0) (k : ∀ (r : Option Nat) (u : GW), K r u → J E u (b.1 - mc, b.2 - ms) L (pc + 3) (va_rf r :: rest)) : J E w b L pc st := by
  intro H q ls x z h1 h2 hP hS hl
  refine vy_callq (hr.2 H q ls x z h1 h2 hP hS hl) hS (fun q _ h => h) (fun _ h => h) (fun q _ h => h) (fun E0 ce q9 u t H1 locs1 ht hvm hp hB hz hk hS1 g1 g2 g3 => ?_) (fun r u t H1 locs1 ht hvm hp hB hz hk hS1 => ?_)
  · exact kx E0 q9 u hB.1 H1 locs1 ls _ _ rest ce (jbud h1 hr.1.1) (jbud h2 hr.1.2) (by rw [← ht]; exact hB.2) hS1 hl g1 g2 g3
  · exact k r u hp H1 locs1 ls _ _ (jbud h1 hr.1.1) (jbud h2 hr.1.2) (by rw [← ht]; exact hB) hS1 hl
section RUNX
variable {f lo : Nat} {y x : MethodName} {bytes : ByteArray} {maxL index a : Nat} {ret : Option FieldType} {rm : Room} {As : List Value} {Qc : Array Value → State → Outcome → State → Prop} {KX : String → Nat → GW → Prop}
abbrev jMetX (E : jE) (w : GW) (av : List Value) (y : MethodName) (bytes : ByteArray) (maxL : Nat) (ret : Option FieldType) (rm : Room) (Qc : Array Value → State → Outcome → State → Prop) (KX : String → Nat → GW → Prop) : Prop := vy_Met E.1.2.1 y (ws_ y bytes maxL ret) rm (va_Pc av (gPre E.2.2.1 E.2.2.2.1 w)) Qc (gXC E.2.2.1 E.2.2.2.1 KX) rm.cells rm.slots E.2.2.2.1
theorem jrx_V (hE : jOk E cc own) (hR : jRoom E f lo) (hM : jMetX E w (.ref a :: As) y bytes maxL ret rm Qc KX) (hq : GoodIn lw_all (wsV own index y.cls y (ws_ y bytes maxL ret))) (hd : jD y As.length) (hf : rm.frames + 1 ≤ f ∧ 8 + (maxL + 11) + rm.locals ≤ lo) (hm : rm.cells ≤ b.1 ∧ rm.slots ≤ b.2) (hc : gIs w a y.cls) (hst : st = As.reverse ++ .ref a :: rest) (hcat : (rest.map fun v => v.category).sum ≤ 8) (d : decode cc pc = .ok (.invokevirtual index, 3)) : jRunX E w b L pc st rest rm.cells rm.slots (Qc (.ref a :: As).toArray) KX := by
  refine ⟨hm, fun H q ls x z h1 h2 hP hS hl => ?_⟩
  subst hst
  exact vy_runV hE.fix hM (cwV As.length hE.ts hq rfl rfl rfl ⟨rfl, hd⟩ ⟨Nat.le_trans hf.1 hR.1, Nat.le_trans hf.2 hR.2⟩) ⟨gPre_blind, hc.recv hE hP hS, fun U hU hW => ⟨rfl, hE.pre hP hS hU hW⟩⟩ rfl rfl hl.1 rfl (lv_room hcat) d ⟨jbud' h1 hm.1, jbud' h2 hm.2⟩
theorem jrx_S (hE : jOk E cc own) (hR : jRoom E f lo) (hM : jMetX E w As y bytes maxL ret rm Qc KX) (hq : GoodIn lw_all (va_wsS own index y (ws_ y bytes maxL ret))) (hd : jD y As.length) (hf : rm.frames + 1 ≤ f ∧ 8 + (maxL + 11) + rm.locals ≤ lo) (hm : rm.cells ≤ b.1 ∧ rm.slots ≤ b.2) (hst : st = As.reverse ++ rest) (hcat : (rest.map fun v => v.category).sum ≤ 8) (d : decode cc pc = .ok (.invokestatic index, 3)) : jRunX E w b L pc st rest rm.cells rm.slots (Qc As.toArray) KX := by
  refine ⟨hm, fun H q ls x z h1 h2 hP hS hl => ?_⟩
  subst hst
  exact vy_runS hE.fix hM (va_cwS As.length hE.ts hq rfl rfl rfl hd ⟨Nat.le_trans hf.1 hR.1, Nat.le_trans hf.2 hR.2⟩) ⟨gPre_blind, fun U hU hW => ⟨rfl, hE.pre hP hS hU hW⟩⟩ rfl rfl hl.1 rfl (lv_room hcat) d ⟨jbud' h1 hm.1, jbud' h2 hm.2⟩
end RUNX
end GX
