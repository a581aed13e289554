/-! helpers of the printed walks over the generic world -/
abbrev KPL (w : GW) (K : Int64 → Prop) : Int64 → GW → Prop := fun v u => u = w ∧ K v
abbrev KPQ (w : GW) (K : Option Nat → Prop) : Option Nat → GW → Prop := fun v u => u = w ∧ K v
/-- the class of a cell that may be written -/
def gmc (w : GW) (a : Nat) : Option Nat := match w a with
  | some (true, .inr (c, _)) => some c
  | _ => none
theorem gmc_at {w : GW} {a c : Nat} (h : gmc w a = some c) : ∃ fs, w a = some (true, .inr (c, fs)) := by
  unfold gmc at h
  split at h
  · next c' fs e => cases h; exact ⟨fs, e⟩
  · cases h
theorem gmc_gIs {w : GW} {a c : Nat} (h : gmc w a = some c) {r : vw_C} (hr : gCl[c]? = some r) : gIs w a r.1 := by
  obtain ⟨fs, e⟩ := gmc_at h
  exact ⟨true, c, fs, r, e, hr, rfl⟩
theorem lw_U {own C owner : String} {idx : Nat} {x y : MethodName} {b : ByteArray} {L : Nat} {r : Option FieldType} (h1 : Cond.methodLink own idx x ∈ lw_all) (h2 : Cond.sameMethod x.cls owner x.name x.desc ∈ lw_all) (h3 : Cond.selects C x y ∈ lw_all) (h4 : Cond.instanceMethod y ∈ lw_all) (h5 : Cond.initialized y.cls ∈ lw_all) (h6 : Cond.code y b L r ∈ lw_all) : GoodIn lw_all (va_wsU own idx C owner x y (ws_ y b L r)) := by
  refine lw_app ?_ (lw_meth h6)
  intro w hw
  simp only [List.mem_cons, List.not_mem_nil, or_false] at hw
  rcases hw with e | e | e | e | e <;> (rw [e]; assumption)
theorem lw_O {own C owner : String} {idx : Nat} {x y : MethodName} {b : ByteArray} {L : Nat} {r : Option FieldType} (h1 : Cond.methodLink own idx x ∈ lw_all) (h2 : Cond.sameMethod x.cls owner x.name x.desc ∈ lw_all) (h2b : Cond.instanceMethod ⟨owner, x.name, x.desc⟩ ∈ lw_all) (h3 : Cond.selects C x y ∈ lw_all) (h4 : Cond.instanceMethod y ∈ lw_all) (h5 : Cond.initialized y.cls ∈ lw_all) (h6 : Cond.code y b L r ∈ lw_all) : GoodIn lw_all (va_wsO own idx C owner x y (ws_ y b L r)) := by
  refine lw_app ?_ (lw_meth h6)
  intro w hw
  simp only [List.mem_cons, List.not_mem_nil, or_false] at hw
  rcases hw with e | e | e | e | e | e <;> (rw [e]; assumption)
theorem lw_SU {own : String} {idx : Nat} {y : MethodName} {b : ByteArray} {L : Nat} {r : Option FieldType} (h1 : Cond.methodLink own idx y ∈ lw_all) (h2 : Cond.sameMethod y.cls y.cls y.name y.desc ∈ lw_all) (h3 : Cond.superclass own y.cls ∈ lw_all) (h4 : Cond.instanceMethod y ∈ lw_all) (h5 : Cond.initialized y.cls ∈ lw_all) (h6 : Cond.code y b L r ∈ lw_all) : GoodIn lw_all (va_wsSU own idx y (ws_ y b L r)) := by
  refine lw_app ?_ (lw_meth h6)
  intro w hw
  simp only [List.mem_cons, List.not_mem_nil, or_false] at hw
  rcases hw with e | e | e | e | e <;> (rw [e]; assumption)
section GH
variable {E : jE} {w : GW} {b : Nat × Nat} {L L' : List (Nat × Value)} {pc pc' : Nat} {st rest : List Value} {cc : ByteArray} {own : String}
theorem jc_ip {mc ms : Nat} {av : Array Value} {K : Int32 → Prop} (hr : jRun E w b L pc st rest mc ms (va_Qi (KPI w K) (gB E.2.2.1 E.2.2.2.1) E.2.2.2.1 av)) (k : ∀ (r : Int32), K r → J E w (b.1 - mc, b.2 - ms) L (pc + 3) (.int r :: rest)) : J E w b L pc st := jc_i hr (fun r u hu => by rw [hu.1]; exact k r hu.2)
theorem jc_lp {mc ms : Nat} {av : Array Value} {K : Int64 → Prop} (hr : jRun E w b L pc st rest mc ms (va_Ql (KPL w K) (gB E.2.2.1 E.2.2.2.1) E.2.2.2.1 av)) (k : ∀ (r : Int64), K r → J E w (b.1 - mc, b.2 - ms) L (pc + 3) (.long r :: rest)) : J E w b L pc st := jc_l hr (fun r u hu => by rw [hu.1]; exact k r hu.2)
theorem jc_qp {mc ms : Nat} {av : Array Value} {K : Option Nat → Prop} (hr : jRun E w b L pc st rest mc ms (va_Qq (KPQ w K) (gB E.2.2.1 E.2.2.2.1) E.2.2.2.1 av)) (k : ∀ (r : Option Nat), K r → J E w (b.1 - mc, b.2 - ms) L (pc + 3) (va_rf r :: rest)) : J E w b L pc st := jc_q hr (fun r u hu => by rw [hu.1]; exact k r hu.2)
theorem jc_vp {mc ms : Nat} {av : Array Value} {K : Prop} (hr : jRun E w b L pc st rest mc ms (va_Qv (KPV w K) (gB E.2.2.1 E.2.2.2.1) E.2.2.2.1 av)) (k : K → J E w (b.1 - mc, b.2 - ms) L (pc + 3) rest) : J E w b L pc st := jc_v hr (fun u hu => by rw [hu.1]; exact k hu.2)
theorem j_b0 (k : J E w b L pc st) : J E w (b.1 - 0, b.2 - 0) L pc st := k
theorem j_castL (hE : jOk E cc own) {index a c : Nat} {nm : String} {cs : List Nat} (hl : ∀ c ∈ cs, ∃ rr, gCl[c]? = some rr ∧ (rr.1 = nm ∨ Cond.castable rr.1 nm ∈ lw_tbl)) (hq : Cond.classLink own index nm ∈ lw_all) (h : gmc w a = some c) (hc : c ∈ cs) (dd : decode cc pc = .ok (.checkcast index, 3)) (kk : J E w b L (pc + 3) (.ref a :: st)) : J E w b L pc (.ref a :: st) := by
  obtain ⟨fs, e⟩ := gmc_at h
  obtain ⟨rr, h1, h2⟩ := hl c hc
  exact j_cast hE hq e h1 h2 dd kk
theorem j_instD (hE : jOk E cc own) {index a c : Nat} (hq : Cond.classLink own index "GlassStreet$Did" ∈ lw_all) (h : gmc w a = some c) (dd : decode cc pc = .ok (.instanceof index, 3)) (ky : c = 16 → J E w b L (pc + 3) (.int 1 :: st)) (kn : ¬ c = 16 → c ∈ [15, 17, 18, 24] ∧ J E w b L (pc + 3) (.int 0 :: st)) : J E w b L pc (.ref a :: st) := by
  obtain ⟨fs, e⟩ := gmc_at h
  by_cases h16 : c = 16
  · subst h16
    exact j_instY hE hq e (rr := (RX20, TX20, 2)) rfl rfl dd (ky rfl)
  · obtain ⟨hc, hk⟩ := kn h16
    simp only [List.mem_cons, List.not_mem_nil, or_false] at hc
    rcases hc with rfl | rfl | rfl | rfl
    · exact j_instN hE hq e (rr := (RX19, TX19, 2)) rfl (by decide) dd hk
    · exact j_instN hE hq e (rr := (RX21, TX21, 1)) rfl (by decide) dd hk
    · exact j_instN hE hq e (rr := (RX22, TX22, 2)) rfl (by decide) dd hk
    · exact j_instN hE hq e (rr := (RX18, fun _ => ("", "", "", false), 0)) rfl (by decide) dd hk
theorem j_instS (hE : jOk E cc own) {index a : Nat} (hq : Cond.classLink own index "java/lang/String" ∈ lw_all) (h : gmc w a = some 21) (dd : decode cc pc = .ok (.instanceof index, 3)) (ky : J E w b L (pc + 3) (.int 1 :: st)) : J E w b L pc (.ref a :: st) := by
  obtain ⟨fs, e⟩ := gmc_at h
  exact j_instY hE hq e (rr := (RJ3, TJ3, 4)) rfl rfl dd ky
theorem j_astL (hE : jOk E cc own) {a n t : Nat} {f : Nat → Option Nat} {i : Int32} {r : Option Nat} {cs : List Nat} (hl : ∀ c ∈ cs, ∃ rr, gCl[c]? = some rr ∧ (rr.1 = gTc t ∨ Cond.castable rr.1 (gTc t) ∈ lw_tbl)) (ht : 4 ≤ t ∧ t < 8) (he : w a = some (true, .inl (t, n, .inr (.inr (.inr (.inr f)))))) (hin : vp_in i n) (hr : r = none ∨ ∃ v c, r = some v ∧ gmc w v = some c ∧ c ∈ cs) (d : decode cc pc = .ok (.aastore, 1)) (kk : J E (gup w a (.inl (t, n, .inr (.inr (.inr (.inr (va_up f i.toNatClampNeg r))))))) b L (pc + 1) st) : J E w b L pc (va_rf r :: .int i :: .ref a :: st) := by
  refine j_astQ hE ht (by unfold gaq; rw [he]; simp) hin ?_ d kk
  rcases hr with h | ⟨v, c, h1, h2, h3⟩
  · exact Or.inl h
  · obtain ⟨fs, e⟩ := gmc_at h2
    obtain ⟨rr, h4, h5⟩ := hl c h3
    exact Or.inr ⟨v, c, fs, rr, h1, e, h4, h5⟩
end GH
theorem gok_0 : gOk 0 RX1 TX1 15 tyX1 := ⟨rfl, in_X1, tyX1_ok, nmX1⟩
theorem dfl_0 : ∀ j, j < 15 → defaultValue (tyX1 j) = vp_V [va_rf none, va_rf none, va_rf none, va_rf none, va_rf none, va_rf none, va_rf none, .int 0, va_rf none, .int 0, va_rf none, .long 0, .int 0, .int 0, va_rf none] j := by
  intro j hj
  rcases (show j = 0 ∨ j = 1 ∨ j = 2 ∨ j = 3 ∨ j = 4 ∨ j = 5 ∨ j = 6 ∨ j = 7 ∨ j = 8 ∨ j = 9 ∨ j = 10 ∨ j = 11 ∨ j = 12 ∨ j = 13 ∨ j = 14 by omega) with rfl | rfl | rfl | rfl | rfl | rfl | rfl | rfl | rfl | rfl | rfl | rfl | rfl | rfl | rfl <;> rfl
theorem plainG_0 : plainName RX1 = true := by decide +kernel
theorem gok_1 : gOk 1 RX2 TX2 8 tyX2 := ⟨rfl, in_X2, tyX2_ok, nmX2⟩
theorem dfl_1 : ∀ j, j < 8 → defaultValue (tyX2 j) = vp_V [va_rf none, .int 0, .int 0, .int 0, .int 0, .int 0, .int 0, va_rf none] j := by
  intro j hj
  rcases (show j = 0 ∨ j = 1 ∨ j = 2 ∨ j = 3 ∨ j = 4 ∨ j = 5 ∨ j = 6 ∨ j = 7 by omega) with rfl | rfl | rfl | rfl | rfl | rfl | rfl | rfl <;> rfl
theorem plainG_1 : plainName RX2 = true := by decide +kernel
theorem gok_2 : gOk 2 RX3 TX3 8 tyX3 := ⟨rfl, in_X3, tyX3_ok, nmX3⟩
theorem dfl_2 : ∀ j, j < 8 → defaultValue (tyX3 j) = vp_V [va_rf none, va_rf none, va_rf none, va_rf none, va_rf none, va_rf none, .int 0, va_rf none] j := by
  intro j hj
  rcases (show j = 0 ∨ j = 1 ∨ j = 2 ∨ j = 3 ∨ j = 4 ∨ j = 5 ∨ j = 6 ∨ j = 7 by omega) with rfl | rfl | rfl | rfl | rfl | rfl | rfl | rfl <;> rfl
theorem plainG_2 : plainName RX3 = true := by decide +kernel
theorem gok_3 : gOk 3 RX4 TX4 5 tyX4 := ⟨rfl, in_X4, tyX4_ok, nmX4⟩
theorem dfl_3 : ∀ j, j < 5 → defaultValue (tyX4 j) = vp_V [va_rf none, va_rf none, .int 0, .int 0, .int 0] j := by
  intro j hj
  rcases (show j = 0 ∨ j = 1 ∨ j = 2 ∨ j = 3 ∨ j = 4 by omega) with rfl | rfl | rfl | rfl | rfl <;> rfl
theorem plainG_3 : plainName RX4 = true := by decide +kernel
theorem gok_4 : gOk 4 RX5 TX5 5 tyX5 := ⟨rfl, in_X5, tyX5_ok, nmX5⟩
theorem dfl_4 : ∀ j, j < 5 → defaultValue (tyX5 j) = vp_V [va_rf none, va_rf none, va_rf none, va_rf none, .int 0] j := by
  intro j hj
  rcases (show j = 0 ∨ j = 1 ∨ j = 2 ∨ j = 3 ∨ j = 4 by omega) with rfl | rfl | rfl | rfl | rfl <;> rfl
theorem plainG_4 : plainName RX5 = true := by decide +kernel
theorem gok_5 : gOk 5 RX6 TX6 31 tyX6 := ⟨rfl, in_X6, tyX6_ok, nmX6⟩
theorem dfl_5 : ∀ j, j < 31 → defaultValue (tyX6 j) = vp_V [.int 0, va_rf none, .int 0, .int 0, va_rf none, va_rf none, va_rf none, .int 0, .int 0, va_rf none, va_rf none, va_rf none, va_rf none, .int 0, va_rf none, va_rf none, va_rf none, va_rf none, .int 0, .int 0, .int 0, va_rf none, va_rf none, va_rf none, va_rf none, .int 0, va_rf none, .int 0, .long 0, .int 0, .int 0] j := by
  intro j hj
  rcases (show j = 0 ∨ j = 1 ∨ j = 2 ∨ j = 3 ∨ j = 4 ∨ j = 5 ∨ j = 6 ∨ j = 7 ∨ j = 8 ∨ j = 9 ∨ j = 10 ∨ j = 11 ∨ j = 12 ∨ j = 13 ∨ j = 14 ∨ j = 15 ∨ j = 16 ∨ j = 17 ∨ j = 18 ∨ j = 19 ∨ j = 20 ∨ j = 21 ∨ j = 22 ∨ j = 23 ∨ j = 24 ∨ j = 25 ∨ j = 26 ∨ j = 27 ∨ j = 28 ∨ j = 29 ∨ j = 30 by omega) with rfl | rfl | rfl | rfl | rfl | rfl | rfl | rfl | rfl | rfl | rfl | rfl | rfl | rfl | rfl | rfl | rfl | rfl | rfl | rfl | rfl | rfl | rfl | rfl | rfl | rfl | rfl | rfl | rfl | rfl | rfl <;> rfl
theorem plainG_5 : plainName RX6 = true := by decide +kernel
theorem gok_6 : gOk 6 RX7 TX7 7 tyX7 := ⟨rfl, in_X7, tyX7_ok, nmX7⟩
theorem dfl_6 : ∀ j, j < 7 → defaultValue (tyX7 j) = vp_V [va_rf none, va_rf none, va_rf none, va_rf none, va_rf none, .int 0, .int 0] j := by
  intro j hj
  rcases (show j = 0 ∨ j = 1 ∨ j = 2 ∨ j = 3 ∨ j = 4 ∨ j = 5 ∨ j = 6 by omega) with rfl | rfl | rfl | rfl | rfl | rfl | rfl <;> rfl
theorem plainG_6 : plainName RX7 = true := by decide +kernel
theorem gok_7 : gOk 7 RX8 TX8 3 tyX8 := ⟨rfl, in_X8, tyX8_ok, nmX8⟩
theorem dfl_7 : ∀ j, j < 3 → defaultValue (tyX8 j) = vp_V [va_rf none, .int 0, .int 0] j := by
  intro j hj
  rcases (show j = 0 ∨ j = 1 ∨ j = 2 by omega) with rfl | rfl | rfl <;> rfl
theorem plainG_7 : plainName RX8 = true := by decide +kernel
theorem gok_8 : gOk 8 RX9 TX9 3 tyX9 := ⟨rfl, in_X9, tyX9_ok, nmX9⟩
theorem dfl_8 : ∀ j, j < 3 → defaultValue (tyX9 j) = vp_V [va_rf none, .int 0, .int 0] j := by
  intro j hj
  rcases (show j = 0 ∨ j = 1 ∨ j = 2 by omega) with rfl | rfl | rfl <;> rfl
theorem plainG_8 : plainName RX9 = true := by decide +kernel
theorem gok_9 : gOk 9 RX10 TX10 3 tyX10 := ⟨rfl, in_X10, tyX10_ok, nmX10⟩
theorem dfl_9 : ∀ j, j < 3 → defaultValue (tyX10 j) = vp_V [va_rf none, .int 0, .int 0] j := by
  intro j hj
  rcases (show j = 0 ∨ j = 1 ∨ j = 2 by omega) with rfl | rfl | rfl <;> rfl
theorem plainG_9 : plainName RX10 = true := by decide +kernel
theorem gok_10 : gOk 10 RX11 TX11 3 tyX11 := ⟨rfl, in_X11, tyX11_ok, nmX11⟩
theorem dfl_10 : ∀ j, j < 3 → defaultValue (tyX11 j) = vp_V [va_rf none, .int 0, .int 0] j := by
  intro j hj
  rcases (show j = 0 ∨ j = 1 ∨ j = 2 by omega) with rfl | rfl | rfl <;> rfl
theorem plainG_10 : plainName RX11 = true := by decide +kernel
theorem gok_11 : gOk 11 RX13 TX13 1 tyX13 := ⟨rfl, in_X13, tyX13_ok, nmX13⟩
theorem dfl_11 : ∀ j, j < 1 → defaultValue (tyX13 j) = vp_V [.int 0] j := by
  intro j hj
  rcases (show j = 0 by omega) with rfl <;> rfl
theorem plainG_11 : plainName RX13 = true := by decide +kernel
theorem gok_12 : gOk 12 RX14 TX14 1 tyX14 := ⟨rfl, in_X14, tyX14_ok, nmX14⟩
theorem dfl_12 : ∀ j, j < 1 → defaultValue (tyX14 j) = vp_V [.int 0] j := by
  intro j hj
  rcases (show j = 0 by omega) with rfl <;> rfl
theorem plainG_12 : plainName RX14 = true := by decide +kernel
theorem gok_13 : gOk 13 RX15 TX15 1 tyX15 := ⟨rfl, in_X15, tyX15_ok, nmX15⟩
theorem dfl_13 : ∀ j, j < 1 → defaultValue (tyX15 j) = vp_V [va_rf none] j := by
  intro j hj
  rcases (show j = 0 by omega) with rfl <;> rfl
theorem plainG_13 : plainName RX15 = true := by decide +kernel
theorem gok_14 : gOk 14 RX16 TX16 3 tyX16 := ⟨rfl, in_X16, tyX16_ok, nmX16⟩
theorem dfl_14 : ∀ j, j < 3 → defaultValue (tyX16 j) = vp_V [.int 0, va_rf none, va_rf none] j := by
  intro j hj
  rcases (show j = 0 ∨ j = 1 ∨ j = 2 by omega) with rfl | rfl | rfl <;> rfl
theorem plainG_14 : plainName RX16 = true := by decide +kernel
theorem gok_15 : gOk 15 RX19 TX19 2 tyX19 := ⟨rfl, in_X19, tyX19_ok, nmX19⟩
theorem dfl_15 : ∀ j, j < 2 → defaultValue (tyX19 j) = vp_V [.int 0, .int 0] j := by
  intro j hj
  rcases (show j = 0 ∨ j = 1 by omega) with rfl | rfl <;> rfl
theorem plainG_15 : plainName RX19 = true := by decide +kernel
theorem gok_16 : gOk 16 RX20 TX20 2 tyX20 := ⟨rfl, in_X20, tyX20_ok, nmX20⟩
theorem dfl_16 : ∀ j, j < 2 → defaultValue (tyX20 j) = vp_V [.int 0, .int 0] j := by
  intro j hj
  rcases (show j = 0 ∨ j = 1 by omega) with rfl | rfl <;> rfl
theorem plainG_16 : plainName RX20 = true := by decide +kernel
theorem gok_17 : gOk 17 RX21 TX21 1 tyX21 := ⟨rfl, in_X21, tyX21_ok, nmX21⟩
theorem dfl_17 : ∀ j, j < 1 → defaultValue (tyX21 j) = vp_V [.int 0] j := by
  intro j hj
  rcases (show j = 0 by omega) with rfl <;> rfl
theorem plainG_17 : plainName RX21 = true := by decide +kernel
theorem gok_18 : gOk 18 RX22 TX22 2 tyX22 := ⟨rfl, in_X22, tyX22_ok, nmX22⟩
theorem dfl_18 : ∀ j, j < 2 → defaultValue (tyX22 j) = vp_V [.int 0, .int 0] j := by
  intro j hj
  rcases (show j = 0 ∨ j = 1 by omega) with rfl | rfl <;> rfl
theorem plainG_18 : plainName RX22 = true := by decide +kernel
theorem gok_19 : gOk 19 RX23 TX23 2 tyX23 := ⟨rfl, in_X23, tyX23_ok, nmX23⟩
theorem dfl_19 : ∀ j, j < 2 → defaultValue (tyX23 j) = vp_V [va_rf none, va_rf none] j := by
  intro j hj
  rcases (show j = 0 ∨ j = 1 by omega) with rfl | rfl <;> rfl
theorem plainG_19 : plainName RX23 = true := by decide +kernel
theorem gok_20 : gOk 20 RJ2 TJ2 3 tyJ2 := ⟨rfl, in_J2, tyJ2_ok, nmJ2⟩
theorem dfl_20 : ∀ j, j < 3 → defaultValue (tyJ2 j) = vp_V [.int 0, va_rf none, .int 0] j := by
  intro j hj
  rcases (show j = 0 ∨ j = 1 ∨ j = 2 by omega) with rfl | rfl | rfl <;> rfl
theorem plainG_20 : plainName RJ2 = true := by decide +kernel
theorem gok_21 : gOk 21 RJ3 TJ3 4 tyJ3 := ⟨rfl, in_J3, tyJ3_ok, nmJ3⟩
theorem dfl_21 : ∀ j, j < 4 → defaultValue (tyJ3 j) = vp_V [va_rf none, .int 0, .int 0, .int 0] j := by
  intro j hj
  rcases (show j = 0 ∨ j = 1 ∨ j = 2 ∨ j = 3 by omega) with rfl | rfl | rfl | rfl <;> rfl
theorem plainG_21 : plainName RJ3 = true := by decide +kernel
theorem gok_22 : gOk 22 RJ13 TJ13 4 tyJ13 := ⟨rfl, in_J13, tyJ13_ok, nmJ13⟩
theorem dfl_22 : ∀ j, j < 4 → defaultValue (tyJ13 j) = vp_V [va_rf none, .int 0, .int 0, .int 0] j := by
  intro j hj
  rcases (show j = 0 ∨ j = 1 ∨ j = 2 ∨ j = 3 by omega) with rfl | rfl | rfl | rfl <;> rfl
theorem plainG_22 : plainName RJ13 = true := by decide +kernel
theorem gok_23 : gOk 23 RJ18 TJ18 6 tyJ18 := ⟨rfl, in_J18, tyJ18_ok, nmJ18⟩
theorem dfl_23 : ∀ j, j < 6 → defaultValue (tyJ18 j) = vp_V [va_rf none, va_rf none, va_rf none, va_rf none, va_rf none, .int 0] j := by
  intro j hj
  rcases (show j = 0 ∨ j = 1 ∨ j = 2 ∨ j = 3 ∨ j = 4 ∨ j = 5 by omega) with rfl | rfl | rfl | rfl | rfl | rfl <;> rfl
theorem plainG_23 : plainName RJ18 = true := by decide +kernel
theorem gok_24 : gOk 24 RX18 (fun _ => ("", "", "", false)) 0 (fun _ => .int) := ⟨rfl, fun w h => by simp [u_ws] at h, fun k h => absurd h (by omega), fun a h => absurd h (by omega)⟩
theorem dfl_24 : ∀ j, j < 0 → defaultValue ((fun _ => FieldType.int) j) = vp_V [] j := fun j h => absurd h (by omega)
theorem plainG_24 : plainName RX18 = true := by decide +kernel
theorem q_mmax_c : Cond.code Lib.Math.max.name Lib.Math.max.code 2 (some .int) ∈ lw_all := q455
theorem q_mmax_s : Cond.static Lib.Math.max.name ∈ lw_all := q454
theorem j_mmax {E : jE} {w : GW} {b : Nat × Nat} {L : List (Nat × Value)} {pc : Nat} {st : List Value} {cc : ByteArray} {own : String} (hE : jOk E cc own) {f lo : Nat} (hR : jRoom E f lo) {index : Nat} {x y : Int32} (hq : Cond.methodLink own index Lib.Math.max.name ∈ lw_all) (hf : 1 ≤ f) (hlo : (st.map fun v => v.category).sum + 13 ≤ lo) (d : decode cc pc = .ok (.invokestatic index, 3)) (k : J E w b L (pc + 3) (.int (if x < y then y else x) :: st)) : J E w b L pc (.int y :: .int x :: st) := by
  intro H q ls _ _ h1 h2 hP hS hl
  exact va_mmax hE.x hE.bc (by rw [hE.ml]; exact hl.1.symm) hE.ow (hE.ts _ hq) (hE.ts _ q_mmax_s) (hE.ts _ q132) (hE.ts _ q_mmax_c) (Nat.le_trans hf hR.1) (by have := hR.2; omega) (by omega) (by omega) d (k H q ls _ _ h1 h2 hP hS hl)
theorem q_mmin_c : Cond.code Lib.Math.min.name Lib.Math.min.code 2 (some .int) ∈ lw_all := q458
theorem q_mmin_s : Cond.static Lib.Math.min.name ∈ lw_all := q457
theorem j_mmin {E : jE} {w : GW} {b : Nat × Nat} {L : List (Nat × Value)} {pc : Nat} {st : List Value} {cc : ByteArray} {own : String} (hE : jOk E cc own) {f lo : Nat} (hR : jRoom E f lo) {index : Nat} {x y : Int32} (hq : Cond.methodLink own index Lib.Math.min.name ∈ lw_all) (hf : 1 ≤ f) (hlo : (st.map fun v => v.category).sum + 13 ≤ lo) (d : decode cc pc = .ok (.invokestatic index, 3)) (k : J E w b L (pc + 3) (.int (if y < x then y else x) :: st)) : J E w b L pc (.int y :: .int x :: st) := by
  intro H q ls _ _ h1 h2 hP hS hl
  exact va_mmin hE.x hE.bc (by rw [hE.ml]; exact hl.1.symm) hE.ow (hE.ts _ hq) (hE.ts _ q_mmin_s) (hE.ts _ q132) (hE.ts _ q_mmin_c) (Nat.le_trans hf hR.1) (by have := hR.2; omega) (by omega) (by omega) d (k H q ls _ _ h1 h2 hP hS hl)
theorem q_mabs_c : Cond.code Lib.Math.abs.name Lib.Math.abs.code 1 (some .int) ∈ lw_all := q1252
theorem q_mabs_s : Cond.static Lib.Math.abs.name ∈ lw_all := q1251
theorem j_mabs {E : jE} {w : GW} {b : Nat × Nat} {L : List (Nat × Value)} {pc : Nat} {st : List Value} {cc : ByteArray} {own : String} (hE : jOk E cc own) {f lo : Nat} (hR : jRoom E f lo) {index : Nat} {x : Int32} (hq : Cond.methodLink own index Lib.Math.abs.name ∈ lw_all) (hf : 1 ≤ f) (hlo : (st.map fun v => v.category).sum + 13 ≤ lo) (d : decode cc pc = .ok (.invokestatic index, 3)) (k : J E w b L (pc + 3) (.int (if 0 ≤ x then x else 0 - x) :: st)) : J E w b L pc (.int x :: st) := by
  intro H q ls _ _ h1 h2 hP hS hl
  exact va_mabs hE.x hE.bc (by rw [hE.ml]; exact hl.1.symm) hE.ow (hE.ts _ hq) (hE.ts _ q_mabs_s) (hE.ts _ q132) (hE.ts _ q_mabs_c) (Nat.le_trans hf hR.1) (by have := hR.2; omega) (by omega) (by omega) d (k H q ls _ _ h1 h2 hP hS hl)
