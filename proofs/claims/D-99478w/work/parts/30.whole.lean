/-! the start's world, gInv at the entry, the whole claim out of the plain law -/
def W0 (c : Nat → Option Nat) (w : GW) (b L : Nat) (xs : Nat → Int32) : Prop := w b = some (false, .inl (0, L, .inl xs)) ∧ (∀ i : Nat, i < 12 → ∃ a v : Nat, c i = some a ∧ w a = some (false, .inr (21, [.ref v, .int 0, .null, .null])) ∧ w v = some (false, .inl (1, kLen.getD i 0, .inl (fun j => (kByt.getD i []).getD j 0)))) ∧ ∀ (a : Nat) (e : gC), w a ≠ some (true, e)
theorem kc_dj : (List.range 12).all (fun i => (List.range 12).all (fun j => decide (i = j) || decide (kLen.getD i 0 ≠ kLen.getD j 0) || (List.range (kLen.getD i 0)).any (fun k => decide ((kByt.getD i []).getD k 0 ≠ (kByt.getD j []).getD k 0)))) = true := by decide +kernel
theorem st_selP {C : String} {y : MethodName} {s : State} {args : Array Value} {n : Nat} (hy : y.cls ≠ "java/lang/invoke/MethodHandle" ∧ y.cls ≠ "java/lang/invoke/VarHandle")
    (hins : (Cond.instantiable C n).before args s = true) (hpriv : (Cond.privateMethod y).before args s = true) (hinst : (Cond.instanceMethod y).before args s = true) (hsm : (Cond.sameMethod y.cls y.cls y.name y.desc).before args s = true) :
    (Cond.selects C y y).before args s = true := by
  obtain ⟨c, k, hc, hk, -, hniab, -, -⟩ := Cond.instantiable_spec hins
  obtain ⟨mk, methM, hnamed, hmethM, -, -⟩ := Cond.instanceMethod_spec hinst
  have hfound : s.methodFound? y.cls y.name y.desc = some mk := State.methodFound?_of_named hnamed hy
  have hown := findClass_of_methodNamed hnamed
  obtain ⟨-, k2, hk2, hni⟩ := Cond.sameMethod_spec hown hfound hsm
  have hsel : selectMethod {} s.vm c mk = .method mk := selectMethod_private hmethM (Cond.privateMethod_at hpriv mk methM hnamed hmethM)
  simp only [Cond.before, Cond.holds, Cond.value, hc, hfound, hnamed, hsel, hk2]
  simp; exact hni
set_option maxRecDepth 100000 in
theorem st_xw {s : State} {args : Array Value} (hts : ∀ w ∈ lw_tbl, w.before args s = true) : ∀ w ∈ gXW, w.before #[] s = true := by
  intro w hw
  simp only [gXW, List.mem_cons, List.not_mem_nil, or_false] at hw
  rcases hw with rfl | rfl | rfl
  · exact va_tabs rfl rfl (st_selP (args := args) (n := 4) ⟨by decide +kernel, by decide +kernel⟩ (hts _ (lw_all_tbl q647)) (hts _ q684) (hts _ (lw_all_tbl q685)) (hts _ (lw_all_tbl q2185)))
  · exact va_tabs rfl rfl (st_selP (args := args) (n := 4) ⟨by decide +kernel, by decide +kernel⟩ (hts _ (lw_all_tbl q647)) (hts _ q688) (hts _ (lw_all_tbl q689)) (hts _ (lw_all_tbl q2186)))
  · exact va_tabs rfl rfl (st_selP (args := args) (n := 4) ⟨by decide +kernel, by decide +kernel⟩ (hts _ (lw_all_tbl q647)) (hts _ q723) (hts _ (lw_all_tbl q724)) (hts _ (lw_all_tbl q2187)))
theorem st_nw {s : State} {args : Array Value} (hts : ∀ w ∈ lw_tbl, w.before args s = true) : gNW s := by
  intro w hw hk
  have h := hts w hw
  cases w <;> simp only [gNk, Bool.false_eq_true] at hk <;> exact va_Nw.of rfl h
theorem st_arrO {s : State} {cell : Cell} {ty : FieldType} (h : s.isArrayOf cell ty) {args : Array Value} {C : String} {n : Nat} (hi : (Cond.instantiable C n).before args s = true) (hc : s.vm.findClass C = some cell.cls) : False := by
  obtain ⟨c, k, h1, h2, h3, -⟩ := Cond.instantiable_spec hi
  obtain ⟨-, k', g1, comp, g2⟩ := h
  rw [hc] at h1; cases h1
  rw [h2] at g1; cases g1
  rw [h3] at g2; cases g2
theorem st_arrT {s : State} {cell : Cell} {t1 t2 : FieldType} (h1 : s.isArrayOf cell t1) (h2 : s.isArrayOf cell t2) : t1 = t2 := by
  obtain ⟨-, k, g1, comp, g2⟩ := h1
  obtain ⟨-, k', g3, comp', g4⟩ := h2
  rw [g1] at g3; cases g3
  rw [g2] at g4; cases g4; rfl
def stP (b L : Nat) (xs : Nat → Int32) (adK adV : Nat → Nat) (a : Nat) (e : gC) : Prop := (a = b ∧ e = .inl (0, L, .inl xs)) ∨ (∃ i, i < 12 ∧ a = adK i ∧ e = .inr (21, [.ref (adV i), .int 0, .null, .null])) ∨ ∃ i, i < 12 ∧ a = adV i ∧ e = .inl (1, kLen.getD i 0, .inl (fun j => (kByt.getD i []).getD j 0))
theorem st_fun {s : State} {args : Array Value} {b L : Nat} {xs : Nat → Int32} {adK adV : Nat → Nat} {A : Nat → Prop} (hts : ∀ w ∈ lw_all, w.before args s = true) (hX : va_X b L xs s s.heap) (hV : vk_S 12 kLen kByt adK adV A s s.heap) {a : Nat} {e e' : gC} (h : stP b L xs adK adV a e) (h' : stP b L xs adK adV a e') : e = e' := by
  obtain ⟨scr, x1, x2, x3, x4, x5⟩ := hX
  have hbK : ∀ i, i < 12 → b ≠ adK i := by
    intro i hi e; subst e
    obtain ⟨cell, k1, k2, k3, k4⟩ := (hV.1 i hi).1
    rw [x1] at k1; cases k1
    exact st_arrO x2 (hts _ q752) k3
  have hbV : ∀ i, i < 12 → b ≠ adV i := by
    intro i hi e; subst e
    obtain ⟨cell, k1, k2, -⟩ := (hV.1 i hi).2.2.2
    rw [x1] at k1; cases k1
    have := st_arrT x2 k2; cases this
  have hKV : ∀ i j, i < 12 → j < 12 → adK i ≠ adV j := by
    intro i j hi hj e
    obtain ⟨cell, k1, k2, k3, k4⟩ := (hV.1 i hi).1
    obtain ⟨cell', g1, g2, -⟩ := (hV.1 j hj).2.2.2
    rw [e, g1] at k1; cases k1
    exact st_arrO g2 (hts _ q752) k3
  have hVV : ∀ i j, i < 12 → j < 12 → adV i = adV j → i = j := by
    intro i j hi hj e
    obtain ⟨cell, k1, k2, k3, k4, k5, k6, k7⟩ := (hV.1 i hi).2.2.2
    obtain ⟨cell', g1, g2, g3, g4, g5, g6, g7⟩ := (hV.1 j hj).2.2.2
    rw [e, g1] at k1; cases k1
    have hl : kLen.getD i 0 = kLen.getD j 0 := by
      have h1 := of_decide_eq_true (all_rng kc_ln hi)
      have h2 := of_decide_eq_true (all_rng kc_ln hj)
      have h3 : (Int32.ofNat (kLen.getD i 0)).toNatClampNeg = (Int32.ofNat (kLen.getD j 0)).toNatClampNeg := by rw [← k5, ← g5]
      rwa [Int32.toNatClampNeg_ofNat_of_lt h1, Int32.toNatClampNeg_ofNat_of_lt h2] at h3
    have h := all_rng (all_rng kc_dj hi) hj
    simp only [Bool.or_eq_true, decide_eq_true_eq, List.any_eq_true, List.mem_range] at h
    rcases h with (h | h) | ⟨k, hk, h⟩
    · exact h
    · exact absurd hl h
    · have e1 := k6 k hk
      have e2 := g6 k (by rw [← hl]; exact hk)
      rw [e1] at e2; injection e2 with e2; injection e2 with e2
      exact absurd e2 h
  rcases h with ⟨h1, rfl⟩ | ⟨i, hi, h1, rfl⟩ | ⟨i, hi, h1, rfl⟩ <;> rcases h' with ⟨h2, rfl⟩ | ⟨j, hj, h2, rfl⟩ | ⟨j, hj, h2, rfl⟩
  · rfl
  · exact absurd (h1.symm.trans h2) (hbK j hj)
  · exact absurd (h1.symm.trans h2) (hbV j hj)
  · exact absurd (h2.symm.trans h1) (hbK i hi)
  · rw [hV.2 i j hi hj (h1.symm.trans h2)]
  · exact absurd (h1.symm.trans h2) (hKV i j hi hj)
  · exact absurd (h2.symm.trans h1) (hbV i hi)
  · exact absurd (h2.symm.trans h1) (hKV j i hj hi)
  · rw [hVV i j hi hj (h1.symm.trans h2)]
theorem st_ro {s : State} {b L : Nat} {xs : Nat → Int32} {adK adV : Nat → Nat} {A : Nat → Prop} (hL : L ≤ 448) (hA : ¬ A b) (hX : va_X b L xs s s.heap) (hV : vk_S 12 kLen kByt adK adV A s s.heap) {a : Nat} {e : gC} (h : stP b L xs adK adV a e) : gRoAt A s s.heap a e ∧ a < s.heap.size := by
  rcases h with ⟨rfl, rfl⟩ | ⟨i, hi, rfl, rfl⟩ | ⟨i, hi, rfl, rfl⟩
  · obtain ⟨scr, x1, x2, x3, x4, x5⟩ := hX
    exact ⟨⟨.int, rfl, scr, x1, x2, x3, by omega, by rw [x4] <;> rfl, x5, hA⟩, (Array.getElem?_eq_some_iff.mp x1).1⟩
  · obtain ⟨h1, h2, h3, h4⟩ := hV.1 i hi
    refine ⟨⟨_, rfl, h1, fun k v hk hv hn => ?_⟩, ?_⟩
    · rcases (show k = 0 ∨ k = 1 ∨ k = 2 ∨ k = 3 by have : k < 4 := hk; omega) with rfl | rfl | rfl | rfl
      · cases hv; exact h3
      · cases hv; exact h2
      · cases hv; exact absurd rfl hn
      · cases hv; exact absurd rfl hn
    · obtain ⟨cell, k1, -⟩ := h1
      exact (Array.getElem?_eq_some_iff.mp k1).1
  · obtain ⟨h1, h2, h3, h4⟩ := hV.1 i hi
    refine ⟨⟨.byte, rfl, h4⟩, ?_⟩
    obtain ⟨cell, k1, -⟩ := h4
    exact (Array.getElem?_eq_some_iff.mp k1).1
theorem st_fl1 : [Cond.eq (.static "java/lang/String" "COMPACT_STRINGS" "Z") (.int 1), .isRef (.static "java/util/ArrayList" "EMPTY_ELEMENTDATA" "[Ljava/lang/Object;"), .isRef (.static "jdk/internal/util/Preconditions" "SIOOBE_FORMATTER" "Ljava/util/function/BiFunction;"), .isRef (.static "java/lang/Throwable" "UNASSIGNED_STACK" "[Ljava/lang/StackTraceElement;"), .isRef (.static "java/lang/Throwable" "SUPPRESSED_SENTINEL" "Ljava/util/List;"), .isRef (.mirror "[Ljava/lang/Object;")].all (fun w => decide (w ∈ kFl)) = true := by decide +kernel
theorem st_fl2 : gNotDid.all (fun C => decide (Cond.not (.castable C "GlassStreet$Did") ∈ kFl)) = true := by decide +kernel
set_option maxRecDepth 100000 in
theorem start_of (hmain : ∀ (c : Nat → Option Nat) (w : GW) (b L : Nat) (xs : Nat → Int32), L ≤ 448 → W0 c w b L xs → wL_law_0 c b w (1200128, 5501098) (fun v _ => v = 1)) {p : Program} {e : Env} {s : State} {m : MethodId} {below : List Frame} {meth : Method} {c : Code} (l : Launch) (hflags : l.flags = flags0) {b L : Nat} {xs : Nat → Int32} (hL : L ≤ 448) (C0 : lw_At p s m meth c b L xs) : W p l e room_1 s m #[Value.ref b] below meth c s.heap [] 0 0 (lw_Z below #[Value.ref b] s) (entryFrame m ([Value.ref b] : List Value).toArray 7) := by
  obtain ⟨hx, hb, hr, hml, hown, hts, hX, hbl, hlocks, hgv⟩ := id C0
  have hta : ∀ w ∈ lw_all, w.before #[Value.ref b] s = true := fun w h => hts w (lw_all_tbl h)
  have hf : ∀ w ∈ kFl, w.before #[Value.ref b] s = true := flat_of_before _ hgv
  obtain ⟨A, hAe⟩ : ∃ A : Nat → Prop, A = fun q => s.heap.size ≤ q := ⟨_, rfl⟩
  have hA : ∀ q : Nat, s.heap.size ≤ q → A q := fun q h => by rw [hAe]; exact h
  have hN : ∀ a : Nat, a < s.heap.size → ¬ A a := fun a h => by rw [hAe]; exact Nat.not_le.mpr h
  obtain ⟨dC, dI, hKc⟩ := st_cls hta
  obtain ⟨d, hKa⟩ := st_arr hts
  obtain ⟨adK, adV, hV, hev⟩ := st_str hf hN
  have f := fun w h => hf w (of_decide_eq_true (List.all_eq_true.mp st_fl1 w h))
  obtain ⟨r12, z12⟩ := st_q (hts _ q225) (hta _ q126) (f _ (List.mem_of_getElem? (i := 1) rfl)) hN
  obtain ⟨r16, z16⟩ := st_q (hts _ q481) (hta _ q134) (f _ (List.mem_of_getElem? (i := 2) rfl)) hN
  obtain ⟨r13, z13⟩ := st_q (hts _ q575) (hta _ q136) (f _ (List.mem_of_getElem? (i := 3) rfl)) hN
  obtain ⟨r14, z14⟩ := st_q (hts _ q577) (hta _ q136) (f _ (List.mem_of_getElem? (i := 4) rfl)) hN
  obtain ⟨mi, hmi⟩ := va_Mi.of (f _ (List.mem_of_getElem? (i := 5) rfl))
  have z0 := va_Zof (hts _ q438) (hta _ q130) (va_eqt (f _ (List.mem_of_getElem? (i := 0) rfl))) hN
  have zu := vy_Zqof (hts _ q575) (hta _ q136) (f _ (List.mem_of_getElem? (i := 3) rfl)) hN
  have zs := vy_Zqof (hts _ q577) (hta _ q136) (f _ (List.mem_of_getElem? (i := 4) rfl)) hN
  obtain ⟨ro, hro⟩ : ∃ ro : Nat → Option gC, ∀ a e, ro a = some e ↔ stP b L xs adK adV a e := by
    have h : ∀ a : Nat, ∃ o : Option gC, ∀ e, o = some e ↔ stP b L xs adK adV a e := by
      intro a
      by_cases h : ∃ e, stP b L xs adK adV a e
      · obtain ⟨e, he⟩ := h
        exact ⟨some e, fun e' => ⟨fun q => by cases q; exact he, fun q => by rw [st_fun hta hX hV he q]⟩⟩
      · exact ⟨none, fun e' => ⟨fun q => (by cases q), fun q => absurd ⟨e', q⟩ h⟩⟩
    obtain ⟨g, hg⟩ := Classical.axiomOfChoice h
    exact ⟨g, hg⟩
  obtain ⟨k, hk⟩ : ∃ k : Nat → Option Nat, k = fun i => if i < 12 then some (adK i) else if i = 12 then r12 else if i = 13 then r13 else if i = 14 then r14 else if i = 15 then some mi else r16 := ⟨_, rfl⟩
  obtain ⟨w, hw⟩ : ∃ w : GW, w = fun a => (ro a).map (fun e => (false, e)) := ⟨_, rfl⟩
  have hW : W0 k w b L xs := by
    refine ⟨?_, fun i hi => ⟨adK i, adV i, by rw [hk]; simp [hi], ?_, ?_⟩, fun a e h => ?_⟩
    · rw [hw]; simp [(hro b _).mpr (Or.inl ⟨rfl, rfl⟩)]
    · rw [hw]; simp [(hro (adK i) _).mpr (Or.inr (Or.inl ⟨i, hi, rfl, rfl⟩))]
    · rw [hw]; simp [(hro (adV i) _).mpr (Or.inr (Or.inr ⟨i, hi, rfl, rfl⟩))]
    · rw [hw] at h; simp at h
  have hmi' : k 15 = some mi := by rw [hk]; rfl
  have hI : gInv ((dC, dI), d, ro, k) A s s.heap := by
    refine ⟨⟨hKc, hKa⟩, st_nw hts, fun i hi => ⟨adK i, by rw [hk]; simp [hi], vk_R.of (hts _ (st_ref i hi)) (hev i hi)⟩, ⟨z0, ?_, ?_, ?_, ?_, zu, zs⟩, ⟨⟨mi, hmi', hmi⟩, va_AO.of (hts _ q223), va_AO.of (hts _ q286), va_AO.of (hts _ q340), va_AO.of (hts _ q342), fun C hC => va_Nc.of (hf _ (of_decide_eq_true (List.all_eq_true.mp st_fl2 C hC))), st_xw hts⟩, fun a e h => (st_ro hL (hN b hbl) hX hV ((hro a e).mp h)).1⟩
    · show va_Z _ _ _ (va_rf (k 12)) _ _ _
      rw [hk]; exact z12
    · show va_Z _ _ _ (va_rf (k 13)) _ _ _
      rw [hk]; exact z13
    · show va_Z _ _ _ (va_rf (k 14)) _ _ _
      rw [hk]; exact z14
    · show va_Z _ _ _ (va_rf (k 16)) _ _ _
      rw [hk]; exact z16
  have hP : GP ((dC, dI), d, ro, k) A w s.heap := by
    intro a bo e h
    rw [hw] at h
    cases hr9 : ro a with
    | none => simp [hr9] at h
    | some e9 =>
      simp only [hr9, Option.map_some, Option.some.injEq, Prod.mk.injEq] at h
      obtain ⟨rfl, rfl⟩ := h
      exact ⟨fun z => (by cases z), fun _ => ⟨(st_ro hL (hN b hbl) hX hV ((hro a _).mp hr9)).2, hr9⟩⟩
  have hE : jOk ((p, l, e, room_1, s, m, #[Value.ref b], below), (meth, c, lw_Z below #[Value.ref b] s), (((dC, dI), d, ro, k), A, 7)) cL_law RX0 := ⟨hx, hb, hml, hown, hta, hA, hI, hlocks⟩
  have hst : l.stackTraces = false := by
    unfold Launch.stackTraces
    rw [hflags]
    decide +kernel
  have hb9 := bL_law_0 hE rfl ⟨Nat.le_of_ble_eq_true rfl, Nat.le_of_ble_eq_true rfl⟩ (c := k) rfl hst (K := fun v _ => v = 1) ⟨fun v _ h => h, rfl, ⟨b, rfl⟩, rfl, hAe, hr⟩ (hmain k w b L xs hL hW)
  rw [lg_entry_eq]
  exact hb9 s.heap [] _ 0 0 (Nat.le_of_ble_eq_true rfl) (Nat.le_of_ble_eq_true rfl) hP va_S.rf (lv_entry ([.ref b]) (n := 7) (Nat.le_of_ble_eq_true rfl))
