/-! methods with one handler, which never throw out -/
def CtWI (l : Launch) (y : MethodName) (cc : ByteArray) (nL : Nat) (ty : FieldType) (hh : List (Nat × Nat × Nat × Nat)) (rm : Room) (G : gG) (av : List Value) (w : GW) (K : Int32 → GW → Prop) : Prop :=
  ∀ A : Nat → Prop, Met l y (wsW_ y cc nL (some ty) hh) rm (va_Pc av (gPre G A w)) (va_Qi K (gB G A) A) rm.cells rm.slots A
theorem CtWI.of {l : Launch} {y : MethodName} {cc : ByteArray} {nL : Nat} {ty : FieldType} {hh : List (Nat × Nat × Nat × Nat)} {rm : Room} {G : gG} {av : List Value} {w : GW} {K : Int32 → GW → Prop} (own : String) (hy : plainName y.cls = true) (hown : y.cls = own) (hlen : (lg_sl av).length ≤ nL)
    (body : ∀ E : jE, jOk E cc own → E.1.2.1 = l → E.2.2.1 = G → E.2.2.2.2 = nL → jRoom E rm.frames rm.locals → E.2.1.2.1.exceptionTable.toList = tableOf hh → jXi E ty K (fun _ _ _ => False) → J E w (rm.cells, rm.slots) (lv_args 0 av) 0 []) : CtWI l y cc nL ty hh rm G av w K := by
  intro A
  have key : vy_Met l y (wsW_ y cc nL (some ty) hh) rm (va_Pc av (gPre G A w)) (va_Qi K (gB G A) A) (gXC G A (fun _ _ _ => False)) rm.cells rm.slots A := by
    refine vy_ofWH (cc := cc) (maxL := nL) (ret := some ty) (hh := hh) hy rfl ?_
    intro p e s m args below meth c s₁ B hml hv
    obtain ⟨rfl, hA, hP, hK⟩ := hv
    have hts0 := atoms_spec (ws := wsW_ y cc nL (some ty) hh) B.pre
    have hts : ∀ w ∈ lw_all, w.before _ s = true := fun w h => hts0 w (List.mem_cons_of_mem _ h)
    have htab := vy_table (x := y) B (hts0 _ List.mem_cons_self)
    have ho : s.vm.findClass own = some m.cls := by rw [← hown]; exact findClass_of_methodNamed B.named
    have hb := body ((p, l, e, (headSpec (wsW_ y cc nL (some ty) hh) rm).room, s, m, av.toArray, below), (meth, c, vy_MQ below (va_Qi K (gB G A) A) (gXC G A (fun _ _ _ => False)) av.toArray s rm.cells rm.slots A), (G, A, nL)) ⟨B.exec, B.bytes, hml, ho, hts, hA, hK, B.notSynchronized⟩ rfl rfl rfl ⟨Nat.le_refl _, Nat.le_refl _⟩ htab ⟨B.returns, rfl⟩
    rw [lg_entry_eq]
    exact hb s.heap [] _ 0 0 (by show 0 + rm.cells ≤ rm.cells; omega) (by show 0 + rm.slots ≤ rm.slots; omega) hP va_S.rf (lv_entry av hlen)
  intro p e h1 h2 h3 s m args below h4 h5 h6 h7
  obtain ⟨n, o, g1, g2, g3, g4⟩ := key p e h1 h2 h3 s m args below h4 h5 h6 h7
  refine ⟨n, o, g1, g2, g3, ?_⟩
  rcases g4 with g4 | ⟨q, -, E, ce, L, ⟨u, -, hu, -⟩, -⟩
  · exact g4
  · exact hu.1.elim
section GWR
variable {E : jE} {w : GW} {b : Nat × Nat} {L L' : List (Nat × Value)} {pc pc' : Nat} {st rest : List Value} {cc : ByteArray} {own : String}
variable {f lo : Nat} {y x : MethodName} {bytes : ByteArray} {maxL index a : Nat} {ret : Option FieldType} {hh : List (Nat × Nat × Nat × Nat)} {rm : Room} {As : List Value} {Qc : Array Value → State → Outcome → State → Prop}
abbrev jMetW (E : jE) (w : GW) (av : List Value) (y : MethodName) (bytes : ByteArray) (maxL : Nat) (ret : Option FieldType) (hh : List (Nat × Nat × Nat × Nat)) (rm : Room) (Qc : Array Value → State → Outcome → State → Prop) : Prop := Met E.1.2.1 y (wsW_ y bytes maxL ret hh) rm (va_Pc av (gPre E.2.2.1 E.2.2.2.1 w)) Qc rm.cells rm.slots E.2.2.2.1
theorem jr_VW (hE : jOk E cc own) (hR : jRoom E f lo) (hM : jMetW E w (.ref a :: As) y bytes maxL ret hh rm Qc) (hq : GoodIn lw_all (wsV own index y.cls y (wsW_ y bytes maxL ret hh))) (hd : jD y As.length) (hf : rm.frames + 1 ≤ f ∧ 8 + (maxL + 11) + rm.locals ≤ lo) (hm : rm.cells ≤ b.1 ∧ rm.slots ≤ b.2) (hc : gIs w a y.cls) (hst : st = As.reverse ++ .ref a :: rest) (hcat : (rest.map fun v => v.category).sum ≤ 8) (d : decode cc pc = .ok (.invokevirtual index, 3)) : jRun E w b L pc st rest rm.cells rm.slots (Qc (.ref a :: As).toArray) := by
  refine ⟨hm, fun H q ls x z h1 h2 hP hS hl => ?_⟩
  subst hst
  exact vy_runVW hE.fix hM (vy_cwVW As.length hE.ts hq rfl rfl rfl ⟨rfl, hd⟩ ⟨Nat.le_trans hf.1 hR.1, Nat.le_trans hf.2 hR.2⟩) ⟨gPre_blind, hc.recv hE hP hS, fun U hU hW => ⟨rfl, hE.pre hP hS hU hW⟩⟩ rfl rfl hl.1 rfl (lv_room hcat) d ⟨jbud' h1 hm.1, jbud' h2 hm.2⟩
theorem jr_SW (hE : jOk E cc own) (hR : jRoom E f lo) (hM : jMetW E w As y bytes maxL ret hh rm Qc) (hq : GoodIn lw_all (va_wsS own index y (wsW_ y bytes maxL ret hh))) (hd : jD y As.length) (hf : rm.frames + 1 ≤ f ∧ 8 + (maxL + 11) + rm.locals ≤ lo) (hm : rm.cells ≤ b.1 ∧ rm.slots ≤ b.2) (hst : st = As.reverse ++ rest) (hcat : (rest.map fun v => v.category).sum ≤ 8) (d : decode cc pc = .ok (.invokestatic index, 3)) : jRun E w b L pc st rest rm.cells rm.slots (Qc As.toArray) := by
  refine ⟨hm, fun H q ls x z h1 h2 hP hS hl => ?_⟩
  subst hst
  exact vy_runSW hE.fix hM (vy_cwSW As.length hE.ts hq rfl rfl rfl hd ⟨Nat.le_trans hf.1 hR.1, Nat.le_trans hf.2 hR.2⟩) ⟨gPre_blind, fun U hU hW => ⟨rfl, hE.pre hP hS hU hW⟩⟩ rfl rfl hl.1 rfl (lv_room hcat) d ⟨jbud' h1 hm.1, jbud' h2 hm.2⟩
/-- names for the world, the budget -/
theorem j_nw (k : ∀ u : GW, u = w → J E u b L pc st) : J E w b L pc st := k w rfl
theorem j_nb (k : ∀ c : Nat × Nat, c = b → J E w c L pc st) : J E w b L pc st := k b rfl
end GWR
